/-! STAGE 1, printed by wip/D-93524w/genj.py: the library's members, part 2 -/
set_option maxRecDepth 100000
theorem hdK_J6_init_2 : yJ6_init_2.cls = "java/lang/String" ∧ yJ6_init_2.cls ≠ "java/lang/invoke/MethodHandle" ∧ yJ6_init_2.cls ≠ "java/lang/invoke/VarHandle" ∧ (parseMethodDescriptor yJ6_init_2.desc).map (fun d => d.parameters.length) = some 2 := by decide +kernel
def w_J6_init (g : gT) (F : Nat) (a0 : Nat) (p1 : Option Nat) (M : hM) (Q : hM → Prop) : Prop :=
  (isC M a0 24 ∧ w_J6_init_2 g F a0 p1 none M (fun M1 => Q M1))
theorem m_J6_init {l : Launch} {g : gT} {F : Nat} {a0 : Nat} {p1 : Option Nat} {M : hM} {Q : hM → Prop} (hJ : JK l g) (hw : w_J6_init g F a0 p1 M Q) : MG l g yJ6_init (ws_ yJ6_init cJ6_init 2 none) 5 110 [va_rf (some a0), va_rf p1] M (PU Q) := by
  refine MG_of hJ.2.1 (by decide) (cat_r (cat_r cat_e)) (Nat.le_of_ble_eq_true rfl) (fun k hl hg hin hQ hC => ?_)
  subst hl hg
  show GW k 2 M 0 [some (va_rf (some a0)), some (va_rf p1)] []
  refine G_aload_n (pc := 0) (i := 0) hC dJ6_init_0 rfl rfl ?_
  refine G_aload_n (pc := 1) (i := 1) hC dJ6_init_1 rfl rfl ?_
  refine G_null (pc := 2) hC dJ6_init_2 ?_
  obtain ⟨hb, hw⟩ := hw
  refine G_callI (pc := 3) (n := 2) (b := a0) (As := [va_rf p1, va_rf none]) (rest := []) hC (m_J6_init_2 hJ hw) (lw_meth q575) q92 q573 q574 rfl hdK_J6_init_2.2 (by decide) rfl rfl (st_c cat_e (Nat.le_of_ble_eq_true rfl)) dJ6_init_3 (kU fun M1 hw => ?_)
  exact G_ret (pc := 6) hC hQ dJ6_init_6 hw
theorem hdK_J6_init : yJ6_init.cls = "java/lang/String" ∧ yJ6_init.cls ≠ "java/lang/invoke/MethodHandle" ∧ yJ6_init.cls ≠ "java/lang/invoke/VarHandle" ∧ (parseMethodDescriptor yJ6_init.desc).map (fun d => d.parameters.length) = some 1 := by decide +kernel
def w_J5_toString (g : gT) (F : Nat) (a0 : Nat) (M : hM) (Q : Option Nat → hM → Prop) : Prop :=
  nW M 24 fsJ6 fun q1 M2 => (isC M2 q1 24 ∧ w_J6_init g F q1 (some a0) M2 (fun M3 => Q (some q1) M3))
theorem m_J5_toString {l : Launch} {g : gT} {F : Nat} {a0 : Nat} {M : hM} {Q : Option Nat → hM → Prop} (hJ : JK l g) (hw : w_J5_toString g F a0 M Q) : MG l g yJ5_toString (ws_ yJ5_toString cJ5_toString 1 (some (.object "java/lang/String"))) 6 131 [va_rf (some a0)] M (PR Q) := by
  refine MG_of hJ.2.1 (by decide) (cat_r cat_e) (Nat.le_of_ble_eq_true rfl) (fun k hl hg hin hQ hC => ?_)
  subst hl hg
  show GW k 1 M 0 [some (va_rf (some a0))] []
  refine G_new (pc := 0) (ci := 24) (C := RJ6) (T := TJ6) (N := 4) (fs := fsJ6) tyJ6 hC rfl in_J6 tyJ6_ok q568 q569 q92 dfJ6 rfl dJ5_toString_0 hw (fun q1 M2 hw => ?_)
  refine G_dup (pc := 3) hC dJ5_toString_3 (rf_cat _) ?_
  refine G_aload_n (pc := 4) (i := 0) hC dJ5_toString_4 rfl rfl ?_
  obtain ⟨hb, hw⟩ := hw
  refine G_callI (pc := 5) (n := 1) (b := q1) (As := [va_rf (some a0)]) (rest := [va_rf (some q1)]) hC (m_J6_init hJ hw) (lw_meth q572) q92 q570 q571 rfl hdK_J6_init.2 (by decide) rfl rfl (st_c (cat_r cat_e) (Nat.le_of_ble_eq_true rfl)) dJ5_toString_5 (kU fun M3 hw => ?_)
  exact G_aret (pc := 8) hC (Or.inl ⟨_, rfl⟩) hQ dJ5_toString_8 hw
def w_J6_coder_14 (g : gT) (F : Nat) (a0 : Nat) (Q : Int32 → hM → Prop) (s0 : Int32) (M : hM) : Prop :=
  (narrow .byte (.int s0) = .int s0 ∧ Q s0 M)
def w_J6_coder (g : gT) (F : Nat) (a0 : Nat) (M : hM) (Q : Int32 → hM → Prop) : Prop :=
  (((1 : Int32) = 0 → w_J6_coder_14 g F a0 Q (1 : Int32) M) ∧ (¬ ((1 : Int32) = 0) → gI M (some a0) 24 1 fun x1 => w_J6_coder_14 g F a0 Q x1 M))
theorem g_J6_coder_14 {k : kT} {F : Nat} {a0 : Nat} {Q : Int32 → hM → Prop} (hJ : JK (kl k) (kg k)) (hC : CX k 1 cJ6_coder RJ6 (some .byte) 1 12) (hQ : isQ k (PI Q)) (hin : (kt k).name = "coder") : ∀ (s0 : Int32) (M : hM), w_J6_coder_14 (kg k) F a0 Q s0 M → GW k 1 M 14 [some (va_rf (some a0))] [.int s0] := by
  intro s0 M hw
  obtain ⟨hz, hw⟩ := hw
  exact G_iret (pc := 14) hC hz hQ dJ6_coder_14 hw
theorem m_J6_coder {l : Launch} {g : gT} {F : Nat} {a0 : Nat} {M : hM} {Q : Int32 → hM → Prop} (hJ : JK l g) (hw : w_J6_coder g F a0 M Q) : MG l g yJ6_coder (ws_ yJ6_coder cJ6_coder 1 (some .byte)) 1 12 [va_rf (some a0)] M (PI Q) := by
  refine MG_of hJ.2.1 (by decide) (cat_r cat_e) (Nat.le_of_ble_eq_true rfl) (fun k hl hg hin hQ hC => ?_)
  subst hl hg
  show GW k 1 M 0 [some (va_rf (some a0))] []
  refine G_gets (pc := 0) (v := .int (1 : Int32)) hC (hC.sK hJ).2.2.2.2.2.2.1 q503 (fun _ h => h) dJ6_coder_0 ?_
  refine G_if_eq (pc := 3) (tgt := 13) hC dJ6_coder_3 (by decide) (fun hc => ?_) (fun hc => ?_)
  · replace hw := hw.1 hc
    refine G_iconst (pc := 13) (v := 1) hC dJ6_coder_13 (by decide) ?_
    exact g_J6_coder_14 hJ hC hQ hin  (1 : Int32) M hw
  · replace hw := hw.2 hc
    refine G_aload_n (pc := 6) (i := 0) hC dJ6_coder_6 rfl rfl ?_
    refine G_getI (pc := 7) (ci := 24) (C := RJ6) (T := TJ6) (N := 4) (f := 1) hC rfl in_J6 (Nat.le_of_ble_eq_true rfl) q654 (fun _ h => h) dJ6_coder_7 hw (fun x1 hw => ?_)
    refine G_goto (pc := 10) (tgt := 14) hC dJ6_coder_10 (by decide) ?_
    exact g_J6_coder_14 hJ hC hQ hin  x1 M hw
theorem hdK_J6_coder : yJ6_coder.cls = "java/lang/String" ∧ yJ6_coder.cls ≠ "java/lang/invoke/MethodHandle" ∧ yJ6_coder.cls ≠ "java/lang/invoke/VarHandle" ∧ (parseMethodDescriptor yJ6_coder.desc).map (fun d => d.parameters.length) = some 0 := by decide +kernel
def w_J6_length (g : gT) (F : Nat) (a0 : Nat) (M : hM) (Q : Int32 → hM → Prop) : Prop :=
  gF M (some a0) 24 0 fun x1 => aLenK g M x1 fun x2 => (isC M a0 24 ∧ w_J6_coder g F a0  M (fun x4 M3 => Q (x2 >>> (x4 &&& 31)) M3))
theorem m_J6_length {l : Launch} {g : gT} {F : Nat} {a0 : Nat} {M : hM} {Q : Int32 → hM → Prop} (hJ : JK l g) (hw : w_J6_length g F a0 M Q) : MG l g yJ6_length (ws_ yJ6_length cJ6_length 1 (some .int)) 2 32 [va_rf (some a0)] M (PI Q) := by
  refine MG_of hJ.2.1 (by decide) (cat_r cat_e) (Nat.le_of_ble_eq_true rfl) (fun k hl hg hin hQ hC => ?_)
  subst hl hg
  show GW k 1 M 0 [some (va_rf (some a0))] []
  refine G_aload_n (pc := 0) (i := 0) hC dJ6_length_0 rfl rfl ?_
  refine G_getF (pc := 1) (ci := 24) (C := RJ6) (T := TJ6) (N := 4) (f := 0) hC rfl in_J6 (Nat.le_of_ble_eq_true rfl) q653 (fun _ h => h) dJ6_length_1 hw (fun x1 hw => ?_)
  refine G_alenK (pc := 4) hJ hC dJ6_length_4 hw (fun x2 hw => ?_)
  refine G_aload_n (pc := 5) (i := 0) hC dJ6_length_5 rfl rfl ?_
  obtain ⟨hb, hw⟩ := hw
  refine G_callV (pc := 6) (n := 0) (C := "java/lang/String") (b := a0) (As := []) (rest := [.int x2]) hC (m_J6_coder hJ hw) (lw_V q499 q500 q501 q92 q502) hdK_J6_coder (by decide) (rcv (C := RJ6) (T := TJ6) (N := 4) hC hb rfl) rfl rfl (st_c (cat_i cat_e) (Nat.le_of_ble_eq_true rfl)) dJ6_length_6 (kI fun x4 M3 hw => ?_)
  refine G_ishr (pc := 9) hC dJ6_length_9 ?_
  exact G_iret (pc := 10) hC rfl hQ dJ6_length_10 hw
def w_J6_isLatin1_18 (g : gT) (F : Nat) (a0 : Nat) (Q : Int32 → hM → Prop) (s0 : Int32) (M : hM) : Prop :=
  ((s0 = 0 ∨ s0 = 1) ∧ Q s0 M)
def w_J6_isLatin1_17 (g : gT) (F : Nat) (a0 : Nat) (Q : Int32 → hM → Prop) (M : hM) : Prop :=
  w_J6_isLatin1_18 g F a0 Q (0 : Int32) M
def w_J6_isLatin1 (g : gT) (F : Nat) (a0 : Nat) (M : hM) (Q : Int32 → hM → Prop) : Prop :=
  (((1 : Int32) = 0 → w_J6_isLatin1_17 g F a0 Q M) ∧ (¬ ((1 : Int32) = 0) → gI M (some a0) 24 1 fun x1 => ((¬ x1 = 0 → w_J6_isLatin1_17 g F a0 Q M) ∧ (x1 = 0 → w_J6_isLatin1_18 g F a0 Q (1 : Int32) M))))
theorem g_J6_isLatin1_18 {k : kT} {F : Nat} {a0 : Nat} {Q : Int32 → hM → Prop} (hJ : JK (kl k) (kg k)) (hC : CX k 1 cJ6_isLatin1 RJ6 (some .boolean) 1 12) (hQ : isQ k (PI Q)) (hin : (kt k).name = "isLatin1") : ∀ (s0 : Int32) (M : hM), w_J6_isLatin1_18 (kg k) F a0 Q s0 M → GW k 1 M 18 [some (va_rf (some a0))] [.int s0] := by
  intro s0 M hw
  obtain ⟨hz, hw⟩ := hw
  exact G_iret (pc := 18) hC (nz_n hz) hQ dJ6_isLatin1_18 hw
theorem g_J6_isLatin1_17 {k : kT} {F : Nat} {a0 : Nat} {Q : Int32 → hM → Prop} (hJ : JK (kl k) (kg k)) (hC : CX k 1 cJ6_isLatin1 RJ6 (some .boolean) 1 12) (hQ : isQ k (PI Q)) (hin : (kt k).name = "isLatin1") : ∀  (M : hM), w_J6_isLatin1_17 (kg k) F a0 Q  M → GW k 1 M 17 [some (va_rf (some a0))] [] := by
  intro  M hw
  refine G_iconst (pc := 17) (v := 0) hC dJ6_isLatin1_17 (by decide) ?_
  exact g_J6_isLatin1_18 hJ hC hQ hin  (0 : Int32) M hw
theorem m_J6_isLatin1 {l : Launch} {g : gT} {F : Nat} {a0 : Nat} {M : hM} {Q : Int32 → hM → Prop} (hJ : JK l g) (hw : w_J6_isLatin1 g F a0 M Q) : MG l g yJ6_isLatin1 (ws_ yJ6_isLatin1 cJ6_isLatin1 1 (some .boolean)) 1 12 [va_rf (some a0)] M (PI Q) := by
  refine MG_of hJ.2.1 (by decide) (cat_r cat_e) (Nat.le_of_ble_eq_true rfl) (fun k hl hg hin hQ hC => ?_)
  subst hl hg
  show GW k 1 M 0 [some (va_rf (some a0))] []
  refine G_gets (pc := 0) (v := .int (1 : Int32)) hC (hC.sK hJ).2.2.2.2.2.2.1 q503 (fun _ h => h) dJ6_isLatin1_0 ?_
  refine G_if_eq (pc := 3) (tgt := 17) hC dJ6_isLatin1_3 (by decide) (fun hc => ?_) (fun hc => ?_)
  · replace hw := hw.1 hc
    exact g_J6_isLatin1_17 hJ hC hQ hin   M hw
  · replace hw := hw.2 hc
    refine G_aload_n (pc := 6) (i := 0) hC dJ6_isLatin1_6 rfl rfl ?_
    refine G_getI (pc := 7) (ci := 24) (C := RJ6) (T := TJ6) (N := 4) (f := 1) hC rfl in_J6 (Nat.le_of_ble_eq_true rfl) q654 (fun _ h => h) dJ6_isLatin1_7 hw (fun x1 hw => ?_)
    refine G_if_ne (pc := 10) (tgt := 17) hC dJ6_isLatin1_10 (by decide) (fun hc => ?_) (fun hc => ?_)
    · replace hw := hw.1 hc
      exact g_J6_isLatin1_17 hJ hC hQ hin   M hw
    · replace hw := hw.2 hc
      refine G_iconst (pc := 13) (v := 1) hC dJ6_isLatin1_13 (by decide) ?_
      refine G_goto (pc := 14) (tgt := 18) hC dJ6_isLatin1_14 (by decide) ?_
      exact g_J6_isLatin1_18 hJ hC hQ hin  (1 : Int32) M hw
def w_J7_getChar_28 (g : gT) (F : Nat) (p0 : Option Nat) (Q : Int32 → hM → Prop) (v1 : Int32) (M : hM) : Prop :=
  aI M p0 4 (v1 <<< ((1 : Int32) &&& 31)) fun x1 => aI M p0 4 ((v1 <<< ((1 : Int32) &&& 31)) + (1 : Int32)) fun x2 => (narrow .char (.int (((((x1 &&& (255 : Int32)) <<< ((0 : Int32) &&& 31)) ||| ((x2 &&& (255 : Int32)) <<< ((8 : Int32) &&& 31)))).toUInt32 % 65536).toInt32) = .int (((((x1 &&& (255 : Int32)) <<< ((0 : Int32) &&& 31)) ||| ((x2 &&& (255 : Int32)) <<< ((8 : Int32) &&& 31)))).toUInt32 % 65536).toInt32 ∧ Q (((((x1 &&& (255 : Int32)) <<< ((0 : Int32) &&& 31)) ||| ((x2 &&& (255 : Int32)) <<< ((8 : Int32) &&& 31)))).toUInt32 % 65536).toInt32 M)
def w_J7_getChar_18 (g : gT) (F : Nat) (p0 : Option Nat) (Q : Int32 → hM → Prop) (M : hM) : Prop :=
  False
def w_J7_getChar (g : gT) (F : Nat) (p0 : Option Nat) (p1 : Int32) (M : hM) (Q : Int32 → hM → Prop) : Prop :=
  ((¬ (1 : Int32) = 0 → w_J7_getChar_28 g F p0 Q p1 M) ∧ ((1 : Int32) = 0 → ((p1 < 0 → w_J7_getChar_18 g F p0 Q M) ∧ (¬ (p1 < 0) → w_J7_length g F p0 M (fun x2 M1 => ((p1 < x2 → w_J7_getChar_28 g F p0 Q p1 M1) ∧ (¬ (p1 < x2) → w_J7_getChar_18 g F p0 Q M1)))))))
theorem g_J7_getChar_28 {k : kT} {F : Nat} {p0 : Option Nat} {Q : Int32 → hM → Prop} (hJ : JK (kl k) (kg k)) (hC : CX k 2 cJ7_getChar RJ7 (some .char) 2 32) (hQ : isQ k (PI Q)) (hin : (kt k).name = "getChar") : ∀ (v1 : Int32) (M : hM), w_J7_getChar_28 (kg k) F p0 Q v1 M → GW k 2 M 28 [some (va_rf p0), some (.int v1)] [] := by
  intro v1 M hw
  refine G_iload_n (pc := 28) (i := 1) hC dJ7_getChar_28 rfl rfl ?_
  refine G_iconst (pc := 29) (v := 1) hC dJ7_getChar_29 (by decide) ?_
  refine G_ishl (pc := 30) hC dJ7_getChar_30 ?_
  refine G_istore_n (pc := 31) (i := 1) (lw := [some (va_rf p0), some (.int (v1 <<< ((1 : Int32) &&& 31)))]) hC dJ7_getChar_31 rfl (Nat.le_of_ble_eq_true rfl) rfl ?_
  refine G_aload_n (pc := 32) (i := 0) hC dJ7_getChar_32 rfl rfl ?_
  refine G_iload_n (pc := 33) (i := 1) hC dJ7_getChar_33 rfl rfl ?_
  refine G_iinc (pc := 34) (i := 1) (v := ((v1 <<< ((1 : Int32) &&& 31)) + (1 : Int32))) (lw := [some (va_rf p0), some (.int ((v1 <<< ((1 : Int32) &&& 31)) + (1 : Int32)))]) hC dJ7_getChar_34 rfl (Nat.le_of_ble_eq_true rfl) rfl rfl ?_
  refine G_bald (pc := 37) hC dJ7_getChar_37 hw (fun x1 hw => ?_)
  refine G_sipush (pc := 38) (v := 255) hC dJ7_getChar_38 (by decide) ?_
  refine G_iand (pc := 41) hC dJ7_getChar_41 ?_
  refine G_gets (pc := 42) (v := .int (0 : Int32)) hC (hC.sK hJ).2.2.2.2.2.2.2.2.1 q491 (fun _ h => h) dJ7_getChar_42 ?_
  refine G_ishl (pc := 45) hC dJ7_getChar_45 ?_
  refine G_aload_n (pc := 46) (i := 0) hC dJ7_getChar_46 rfl rfl ?_
  refine G_iload_n (pc := 47) (i := 1) hC dJ7_getChar_47 rfl rfl ?_
  refine G_bald (pc := 48) hC dJ7_getChar_48 hw (fun x2 hw => ?_)
  refine G_sipush (pc := 49) (v := 255) hC dJ7_getChar_49 (by decide) ?_
  refine G_iand (pc := 52) hC dJ7_getChar_52 ?_
  refine G_gets (pc := 53) (v := .int (8 : Int32)) hC (hC.sK hJ).2.2.2.2.2.2.2.2.2.1 q493 (fun _ h => h) dJ7_getChar_53 ?_
  refine G_ishl (pc := 56) hC dJ7_getChar_56 ?_
  refine G_ior (pc := 57) hC dJ7_getChar_57 ?_
  refine G_i2c (pc := 58) hC dJ7_getChar_58 ?_
  obtain ⟨hz, hw⟩ := hw
  exact G_iret (pc := 59) hC hz hQ dJ7_getChar_59 hw
theorem g_J7_getChar_18 {k : kT} {F : Nat} {p0 : Option Nat} {Q : Int32 → hM → Prop} (hJ : JK (kl k) (kg k)) (hC : CX k 2 cJ7_getChar RJ7 (some .char) 2 32) (hQ : isQ k (PI Q)) (hin : (kt k).name = "getChar") : ∀  (M : hM), w_J7_getChar_18 (kg k) F p0 Q  M → GW k 2 M 18 [some (va_rf p0), none] [] := by
  intro  M hw
  exact hw.elim
theorem m_J7_getChar {l : Launch} {g : gT} {F : Nat} {p0 : Option Nat} {p1 : Int32} {M : hM} {Q : Int32 → hM → Prop} (hJ : JK l g) (hw : w_J7_getChar g F p0 p1 M Q) : MG l g yJ7_getChar (ws_ yJ7_getChar cJ7_getChar 2 (some .char)) 2 32 [va_rf p0, .int p1] M (PI Q) := by
  refine MG_of hJ.2.1 (by decide) (cat_r (cat_i cat_e)) (Nat.le_of_ble_eq_true rfl) (fun k hl hg hin hQ hC => ?_)
  subst hl hg
  show GW k 2 M 0 [some (va_rf p0), some (.int p1)] []
  refine G_gets (pc := 0) (v := .int (1 : Int32)) hC (hC.sK hJ).2.2.2.2.2.2.2.1 q489 (fun _ h => h) dJ7_getChar_0 ?_
  refine G_if_ne (pc := 3) (tgt := 28) hC dJ7_getChar_3 (by decide) (fun hc => ?_) (fun hc => ?_)
  · replace hw := hw.1 hc
    exact g_J7_getChar_28 hJ hC hQ hin  p1 M hw
  · replace hw := hw.2 hc
    refine G_iload_n (pc := 6) (i := 1) hC dJ7_getChar_6 rfl rfl ?_
    refine G_if_lt (pc := 7) (tgt := 18) hC dJ7_getChar_7 (by decide) (fun hc => ?_) (fun hc => ?_)
    · replace hw := hw.1 hc
      refine G_loc (lv' := [some (va_rf p0), none]) ⟨Or.inr rfl, Or.inl rfl, trivial⟩ ?_
      exact g_J7_getChar_18 hJ hC hQ hin   M hw
    · replace hw := hw.2 hc
      refine G_iload_n (pc := 10) (i := 1) hC dJ7_getChar_10 rfl rfl ?_
      refine G_aload_n (pc := 11) (i := 0) hC dJ7_getChar_11 rfl rfl ?_
      refine G_callS (pc := 12) (n := 1) (As := [va_rf p0]) (rest := [.int p1]) hC (m_J7_length hJ hw) (lw_S q475 q476 q93 q477) hdK_J7_length.2 (by decide) rfl rfl (st_c (cat_i cat_e) (Nat.le_of_ble_eq_true rfl)) dJ7_getChar_12 (kI fun x2 M1 hw => ?_)
      refine G_icmp_lt (pc := 15) (tgt := 28) hC dJ7_getChar_15 (by decide) (fun hc => ?_) (fun hc => ?_)
      · replace hw := hw.1 hc
        exact g_J7_getChar_28 hJ hC hQ hin  p1 M1 hw
      · replace hw := hw.2 hc
        refine G_loc (lv' := [some (va_rf p0), none]) ⟨Or.inr rfl, Or.inl rfl, trivial⟩ ?_
        exact g_J7_getChar_18 hJ hC hQ hin   M1 hw
theorem hdK_J7_getChar : yJ7_getChar.cls = "java/lang/StringUTF16" ∧ yJ7_getChar.cls ≠ "java/lang/invoke/MethodHandle" ∧ yJ7_getChar.cls ≠ "java/lang/invoke/VarHandle" ∧ (parseMethodDescriptor yJ7_getChar.desc).map (fun d => d.parameters.length) = some 2 := by decide +kernel
def w_J7_charAt (g : gT) (F : Nat) (p0 : Option Nat) (p1 : Int32) (M : hM) (Q : Int32 → hM → Prop) : Prop :=
  w_J7_checkIndex g F p1 p0 M (fun M1 => w_J7_getChar g F p0 p1 M1 (fun x3 M2 => (narrow .char (.int x3) = .int x3 ∧ Q x3 M2)))
theorem m_J7_charAt {l : Launch} {g : gT} {F : Nat} {p0 : Option Nat} {p1 : Int32} {M : hM} {Q : Int32 → hM → Prop} (hJ : JK l g) (hw : w_J7_charAt g F p0 p1 M Q) : MG l g yJ7_charAt (ws_ yJ7_charAt cJ7_charAt 2 (some .char)) 4 76 [va_rf p0, .int p1] M (PI Q) := by
  refine MG_of hJ.2.1 (by decide) (cat_r (cat_i cat_e)) (Nat.le_of_ble_eq_true rfl) (fun k hl hg hin hQ hC => ?_)
  subst hl hg
  show GW k 2 M 0 [some (va_rf p0), some (.int p1)] []
  refine G_iload_n (pc := 0) (i := 1) hC dJ7_charAt_0 rfl rfl ?_
  refine G_aload_n (pc := 1) (i := 0) hC dJ7_charAt_1 rfl rfl ?_
  refine G_callS (pc := 2) (n := 2) (As := [.int p1, va_rf p0]) (rest := []) hC (m_J7_checkIndex hJ hw) (lw_S q1736 q1737 q93 q1738) hdK_J7_checkIndex.2 (by decide) rfl rfl (st_c cat_e (Nat.le_of_ble_eq_true rfl)) dJ7_charAt_2 (kU fun M1 hw => ?_)
  refine G_aload_n (pc := 5) (i := 0) hC dJ7_charAt_5 rfl rfl ?_
  refine G_iload_n (pc := 6) (i := 1) hC dJ7_charAt_6 rfl rfl ?_
  refine G_callS (pc := 7) (n := 2) (As := [va_rf p0, .int p1]) (rest := []) hC (m_J7_getChar hJ hw) (lw_S q646 q647 q93 q648) hdK_J7_getChar.2 (by decide) rfl rfl (st_c cat_e (Nat.le_of_ble_eq_true rfl)) dJ7_charAt_7 (kI fun x3 M2 hw => ?_)
  obtain ⟨hz, hw⟩ := hw
  exact G_iret (pc := 10) hC hz hQ dJ7_charAt_10 hw
def w_J17_charAt (g : gT) (F : Nat) (p0 : Option Nat) (p1 : Int32) (M : hM) (Q : Int32 → hM → Prop) : Prop :=
  aLenK g M p0 fun x1 => w_J6_checkIndex g F p1 x1 M (fun M2 => aI M2 p0 4 p1 fun x3 => (narrow .char (.int (((x3 &&& (255 : Int32))).toUInt32 % 65536).toInt32) = .int (((x3 &&& (255 : Int32))).toUInt32 % 65536).toInt32 ∧ Q (((x3 &&& (255 : Int32))).toUInt32 % 65536).toInt32 M2))
theorem m_J17_charAt {l : Launch} {g : gT} {F : Nat} {p0 : Option Nat} {p1 : Int32} {M : hM} {Q : Int32 → hM → Prop} (hJ : JK l g) (hw : w_J17_charAt g F p0 p1 M Q) : MG l g yJ17_charAt (ws_ yJ17_charAt cJ17_charAt 2 (some .char)) 3 55 [va_rf p0, .int p1] M (PI Q) := by
  refine MG_of hJ.2.1 (by decide) (cat_r (cat_i cat_e)) (Nat.le_of_ble_eq_true rfl) (fun k hl hg hin hQ hC => ?_)
  subst hl hg
  show GW k 2 M 0 [some (va_rf p0), some (.int p1)] []
  refine G_iload_n (pc := 0) (i := 1) hC dJ17_charAt_0 rfl rfl ?_
  refine G_aload_n (pc := 1) (i := 0) hC dJ17_charAt_1 rfl rfl ?_
  refine G_alenK (pc := 2) hJ hC dJ17_charAt_2 hw (fun x1 hw => ?_)
  refine G_callS (pc := 3) (n := 2) (As := [.int p1, .int x1]) (rest := []) hC (m_J6_checkIndex hJ hw) (lw_S q1798 q1740 q92 q1741) hdK_J6_checkIndex.2 (by decide) rfl rfl (st_c cat_e (Nat.le_of_ble_eq_true rfl)) dJ17_charAt_3 (kU fun M2 hw => ?_)
  refine G_aload_n (pc := 6) (i := 0) hC dJ17_charAt_6 rfl rfl ?_
  refine G_iload_n (pc := 7) (i := 1) hC dJ17_charAt_7 rfl rfl ?_
  refine G_bald (pc := 8) hC dJ17_charAt_8 hw (fun x3 hw => ?_)
  refine G_sipush (pc := 9) (v := 255) hC dJ17_charAt_9 (by decide) ?_
  refine G_iand (pc := 12) hC dJ17_charAt_12 ?_
  refine G_i2c (pc := 13) hC dJ17_charAt_13 ?_
  obtain ⟨hz, hw⟩ := hw
  exact G_iret (pc := 14) hC hz hQ dJ17_charAt_14 hw
theorem hdK_J17_charAt : yJ17_charAt.cls = "java/lang/StringLatin1" ∧ yJ17_charAt.cls ≠ "java/lang/invoke/MethodHandle" ∧ yJ17_charAt.cls ≠ "java/lang/invoke/VarHandle" ∧ (parseMethodDescriptor yJ17_charAt.desc).map (fun d => d.parameters.length) = some 2 := by decide +kernel
theorem hdK_J6_isLatin1 : yJ6_isLatin1.cls = "java/lang/String" ∧ yJ6_isLatin1.cls ≠ "java/lang/invoke/MethodHandle" ∧ yJ6_isLatin1.cls ≠ "java/lang/invoke/VarHandle" ∧ (parseMethodDescriptor yJ6_isLatin1.desc).map (fun d => d.parameters.length) = some 0 := by decide +kernel
theorem hdK_J7_charAt : yJ7_charAt.cls = "java/lang/StringUTF16" ∧ yJ7_charAt.cls ≠ "java/lang/invoke/MethodHandle" ∧ yJ7_charAt.cls ≠ "java/lang/invoke/VarHandle" ∧ (parseMethodDescriptor yJ7_charAt.desc).map (fun d => d.parameters.length) = some 2 := by decide +kernel
def w_J6_charAt (g : gT) (F : Nat) (a0 : Nat) (p1 : Int32) (M : hM) (Q : Int32 → hM → Prop) : Prop :=
  (isC M a0 24 ∧ w_J6_isLatin1 g F a0  M (fun x2 M1 => ((x2 = 0 → gF M1 (some a0) 24 0 fun x3 => w_J7_charAt g F x3 p1 M1 (fun x5 M4 => (narrow .char (.int x5) = .int x5 ∧ Q x5 M4))) ∧ (¬ (x2 = 0) → gF M1 (some a0) 24 0 fun x6 => w_J17_charAt g F x6 p1 M1 (fun x8 M7 => (narrow .char (.int x8) = .int x8 ∧ Q x8 M7))))))
theorem m_J6_charAt {l : Launch} {g : gT} {F : Nat} {a0 : Nat} {p1 : Int32} {M : hM} {Q : Int32 → hM → Prop} (hJ : JK l g) (hw : w_J6_charAt g F a0 p1 M Q) : MG l g yJ6_charAt (ws_ yJ6_charAt cJ6_charAt 2 (some .char)) 5 97 [va_rf (some a0), .int p1] M (PI Q) := by
  refine MG_of hJ.2.1 (by decide) (cat_r (cat_i cat_e)) (Nat.le_of_ble_eq_true rfl) (fun k hl hg hin hQ hC => ?_)
  subst hl hg
  show GW k 2 M 0 [some (va_rf (some a0)), some (.int p1)] []
  refine G_aload_n (pc := 0) (i := 0) hC dJ6_charAt_0 rfl rfl ?_
  obtain ⟨hb, hw⟩ := hw
  refine G_callV (pc := 1) (n := 0) (C := "java/lang/String") (b := a0) (As := []) (rest := []) hC (m_J6_isLatin1 hJ hw) (lw_V q1791 q1792 q1793 q92 q1794) hdK_J6_isLatin1 (by decide) (rcv (C := RJ6) (T := TJ6) (N := 4) hC hb rfl) rfl rfl (st_c cat_e (Nat.le_of_ble_eq_true rfl)) dJ6_charAt_1 (kI fun x2 M1 hw => ?_)
  refine G_if_eq (pc := 4) (tgt := 16) hC dJ6_charAt_4 (by decide) (fun hc => ?_) (fun hc => ?_)
  · replace hw := hw.1 hc
    refine G_aload_n (pc := 16) (i := 0) hC dJ6_charAt_16 rfl rfl ?_
    refine G_getF (pc := 17) (ci := 24) (C := RJ6) (T := TJ6) (N := 4) (f := 0) hC rfl in_J6 (Nat.le_of_ble_eq_true rfl) q653 (fun _ h => h) dJ6_charAt_17 hw (fun x3 hw => ?_)
    refine G_iload_n (pc := 20) (i := 1) hC dJ6_charAt_20 rfl rfl ?_
    refine G_callS (pc := 21) (n := 2) (As := [va_rf x3, .int p1]) (rest := []) hC (m_J7_charAt hJ hw) (lw_S q1799 q1800 q93 q1801) hdK_J7_charAt.2 (by decide) rfl rfl (st_c cat_e (Nat.le_of_ble_eq_true rfl)) dJ6_charAt_21 (kI fun x5 M4 hw => ?_)
    obtain ⟨hz, hw⟩ := hw
    exact G_iret (pc := 24) hC hz hQ dJ6_charAt_24 hw
  · replace hw := hw.2 hc
    refine G_aload_n (pc := 7) (i := 0) hC dJ6_charAt_7 rfl rfl ?_
    refine G_getF (pc := 8) (ci := 24) (C := RJ6) (T := TJ6) (N := 4) (f := 0) hC rfl in_J6 (Nat.le_of_ble_eq_true rfl) q653 (fun _ h => h) dJ6_charAt_8 hw (fun x6 hw => ?_)
    refine G_iload_n (pc := 11) (i := 1) hC dJ6_charAt_11 rfl rfl ?_
    refine G_callS (pc := 12) (n := 2) (As := [va_rf x6, .int p1]) (rest := []) hC (m_J17_charAt hJ hw) (lw_S q1795 q1796 q104 q1797) hdK_J17_charAt.2 (by decide) rfl rfl (st_c cat_e (Nat.le_of_ble_eq_true rfl)) dJ6_charAt_12 (kI fun x8 M7 hw => ?_)
    obtain ⟨hz, hw⟩ := hw
    exact G_iret (pc := 15) hC hz hQ dJ6_charAt_15 hw
def w_J35_size (g : gT) (F : Nat) (a0 : Nat) (M : hM) (Q : Int32 → hM → Prop) : Prop :=
  gI M (some a0) 29 1 fun x1 => Q x1 M
theorem m_J35_size {l : Launch} {g : gT} {F : Nat} {a0 : Nat} {M : hM} {Q : Int32 → hM → Prop} (hJ : JK l g) (hw : w_J35_size g F a0 M Q) : MG l g yJ35_size (ws_ yJ35_size cJ35_size 1 (some .int)) 1 12 [va_rf (some a0)] M (PI Q) := by
  refine MG_of hJ.2.1 (by decide) (cat_r cat_e) (Nat.le_of_ble_eq_true rfl) (fun k hl hg hin hQ hC => ?_)
  subst hl hg
  show GW k 1 M 0 [some (va_rf (some a0))] []
  refine G_aload_n (pc := 0) (i := 0) hC dJ35_size_0 rfl rfl ?_
  refine G_getI (pc := 1) (ci := 29) (C := RJ35) (T := TJ35) (N := 4) (f := 1) hC rfl in_J35 (Nat.le_of_ble_eq_true rfl) q2692 (fun _ h => h) dJ35_size_1 hw (fun x1 hw => ?_)
  exact G_iret (pc := 4) hC rfl hQ dJ35_size_4 hw
def w_J0_isEmpty_s29_12 (g : gT) (F : Nat) (a0 : Nat) (Q : Int32 → hM → Prop) (s0 : Int32) (M : hM) : Prop :=
  ((s0 = 0 ∨ s0 = 1) ∧ Q s0 M)
def w_J0_isEmpty_s29 (g : gT) (F : Nat) (a0 : Nat) (M : hM) (Q : Int32 → hM → Prop) : Prop :=
  (isC M a0 29 ∧ w_J35_size g F a0  M (fun x2 M1 => ((¬ x2 = 0 → w_J0_isEmpty_s29_12 g F a0 Q (0 : Int32) M1) ∧ (x2 = 0 → w_J0_isEmpty_s29_12 g F a0 Q (1 : Int32) M1))))
theorem g_J0_isEmpty_s29_12 {k : kT} {F : Nat} {a0 : Nat} {Q : Int32 → hM → Prop} (hJ : JK (kl k) (kg k)) (hC : CX k 1 cJ0_isEmpty RJ0 (some .boolean) 2 32) (hQ : isQ k (PI Q)) (hin : (kt k).name = "isEmpty") : ∀ (s0 : Int32) (M : hM), w_J0_isEmpty_s29_12 (kg k) F a0 Q s0 M → GW k 1 M 12 [some (va_rf (some a0))] [.int s0] := by
  intro s0 M hw
  obtain ⟨hz, hw⟩ := hw
  exact G_iret (pc := 12) hC (nz_n hz) hQ dJ0_isEmpty_12 hw
theorem m_J0_isEmpty_s29 {l : Launch} {g : gT} {F : Nat} {a0 : Nat} {M : hM} {Q : Int32 → hM → Prop} (hJ : JK l g) (hw : w_J0_isEmpty_s29 g F a0 M Q) : MG l g yJ0_isEmpty (ws_ yJ0_isEmpty cJ0_isEmpty 1 (some .boolean)) 2 32 [va_rf (some a0)] M (PI Q) := by
  refine MG_of hJ.2.1 (by decide) (cat_r cat_e) (Nat.le_of_ble_eq_true rfl) (fun k hl hg hin hQ hC => ?_)
  subst hl hg
  show GW k 1 M 0 [some (va_rf (some a0))] []
  refine G_aload_n (pc := 0) (i := 0) hC dJ0_isEmpty_0 rfl rfl ?_
  obtain ⟨hb, hw⟩ := hw
  refine G_callA (pc := 1) (n := 0) (x := ⟨"java/util/AbstractCollection", "size", "()I"⟩) (owner := "java/util/AbstractCollection") (C := "java/util/PriorityQueue") (b := a0) (As := []) (rest := []) hC (m_J35_size hJ hw) (lw_U q767 q3863 q3867 q773 q129 q774) (nw_in q361 rfl) (rcv (C := RJ35) (T := TJ35) (N := 4) hC hb rfl) (by decide +kernel) (by decide) rfl rfl (st_c cat_e (Nat.le_of_ble_eq_true rfl)) dJ0_isEmpty_1 (kI fun x2 M1 hw => ?_)
  refine G_if_ne (pc := 4) (tgt := 11) hC dJ0_isEmpty_4 (by decide) (fun hc => ?_) (fun hc => ?_)
  · replace hw := hw.1 hc
    refine G_iconst (pc := 11) (v := 0) hC dJ0_isEmpty_11 (by decide) ?_
    exact g_J0_isEmpty_s29_12 hJ hC hQ hin  (0 : Int32) M1 hw
  · replace hw := hw.2 hc
    refine G_iconst (pc := 7) (v := 1) hC dJ0_isEmpty_7 (by decide) ?_
    refine G_goto (pc := 8) (tgt := 12) hC dJ0_isEmpty_8 (by decide) ?_
    exact g_J0_isEmpty_s29_12 hJ hC hQ hin  (1 : Int32) M1 hw
def w_J35_siftDownUsingComparator_88 (g : gT) (F : Nat) (p1 : Option Nat) (p2 : Option Nat) (p3 : Int32) (p4 : Option Nat) (Q : hM → Prop) (v0 : Int32) (M : hM) : Prop :=
  sR g M p2 v0 p1 fun M1 => Q M1
def w_J35_siftDownUsingComparator_61 (g : gT) (F : Nat) (p1 : Option Nat) (p2 : Option Nat) (p3 : Int32) (p4 : Option Nat) (Q : hM → Prop) (K5 : Int32 → Int32 → hM → Prop) (v0 : Int32) (v5 : Int32) (v6 : Int32) (v7 : Option Nat) (M : hM) : Prop :=
  gThis M p4 13 fun b2 => w_Y14_compare g F b2 p1 v7 M (fun x3 M1 => ((0 < x3 → sR g M1 p2 v0 v7 fun M4 => K5 v6 v5 M4) ∧ (¬ (0 < x3) → w_J35_siftDownUsingComparator_88 g F p1 p2 p3 p4 Q v0 M1)))
def w_J35_siftDownUsingComparator_5 (g : gT) (F : Nat) (p1 : Option Nat) (p2 : Option Nat) (p3 : Int32) (p4 : Option Nat) (Q : hM → Prop) : Nat → Int32 → Int32 → hM → Prop
  | 0, _, _, _ => False
  | n + 1, v0, v5, M => ((v5 ≤ v0 → w_J35_siftDownUsingComparator_88 g F p1 p2 p3 p4 Q v0 M) ∧ (¬ (v5 ≤ v0) → aR M p2 ((v0 <<< ((1 : Int32) &&& 31)) + (1 : Int32)) fun x1 => ((p3 ≤ (((v0 <<< ((1 : Int32) &&& 31)) + (1 : Int32)) + (1 : Int32)) → w_J35_siftDownUsingComparator_61 g F p1 p2 p3 p4 Q (fun v0 v5 M => w_J35_siftDownUsingComparator_5 g F p1 p2 p3 p4 Q n v0 v5 M) v0 v5 ((v0 <<< ((1 : Int32) &&& 31)) + (1 : Int32)) x1 M) ∧ (¬ (p3 ≤ (((v0 <<< ((1 : Int32) &&& 31)) + (1 : Int32)) + (1 : Int32))) → aR M p2 (((v0 <<< ((1 : Int32) &&& 31)) + (1 : Int32)) + (1 : Int32)) fun x2 => gThis M p4 13 fun b4 => w_Y14_compare g F b4 x1 x2 M (fun x5 M3 => ((x5 ≤ 0 → w_J35_siftDownUsingComparator_61 g F p1 p2 p3 p4 Q (fun v0 v5 M => w_J35_siftDownUsingComparator_5 g F p1 p2 p3 p4 Q n v0 v5 M) v0 v5 ((v0 <<< ((1 : Int32) &&& 31)) + (1 : Int32)) x1 M3) ∧ (¬ (x5 ≤ 0) → aR M3 p2 (((v0 <<< ((1 : Int32) &&& 31)) + (1 : Int32)) + (1 : Int32)) fun x6 => w_J35_siftDownUsingComparator_61 g F p1 p2 p3 p4 Q (fun v0 v5 M => w_J35_siftDownUsingComparator_5 g F p1 p2 p3 p4 Q n v0 v5 M) v0 v5 (((v0 <<< ((1 : Int32) &&& 31)) + (1 : Int32)) + (1 : Int32)) x6 M3)))))))
def w_J35_siftDownUsingComparator (g : gT) (F : Nat) (p0 : Int32) (p1 : Option Nat) (p2 : Option Nat) (p3 : Int32) (p4 : Option Nat) (M : hM) (Q : hM → Prop) : Prop :=
  w_J35_siftDownUsingComparator_5 g F p1 p2 p3 p4 Q F p0 ((p3).toUInt32 >>> (((1 : Int32)).toUInt32 &&& Int32.toUInt32 31)).toInt32 M
theorem g_J35_siftDownUsingComparator_88 {k : kT} {F : Nat} {p1 : Option Nat} {p2 : Option Nat} {p3 : Int32} {p4 : Option Nat} {Q : hM → Prop} (hJ : JK (kl k) (kg k)) (hC : CX k 9 cJ35_siftDownUsingComparator RJ35 none 4 77) (hQ : isQ k (PU Q)) (hin : (kt k).name = "siftDownUsingComparator") : ∀ (v0 : Int32) (M : hM), w_J35_siftDownUsingComparator_88 (kg k) F p1 p2 p3 p4 Q v0 M → GW k 9 M 88 [some (.int v0), some (va_rf p1), some (va_rf p2), some (.int p3), some (va_rf p4), none, none, none, none] [] := by
  intro v0 M hw
  refine G_aload_n (pc := 88) (i := 2) hC dJ35_siftDownUsingComparator_88 rfl rfl ?_
  refine G_iload_n (pc := 89) (i := 0) hC dJ35_siftDownUsingComparator_89 rfl rfl ?_
  refine G_aload_n (pc := 90) (i := 1) hC dJ35_siftDownUsingComparator_90 rfl rfl ?_
  refine G_aastO (pc := 91) hJ hC dJ35_siftDownUsingComparator_91 hw (fun M1 hw => ?_)
  exact G_ret (pc := 92) hC hQ dJ35_siftDownUsingComparator_92 hw
theorem g_J35_siftDownUsingComparator_61 {k : kT} {F : Nat} {p1 : Option Nat} {p2 : Option Nat} {p3 : Int32} {p4 : Option Nat} {Q : hM → Prop} {K5 : Int32 → Int32 → hM → Prop} (hJ : JK (kl k) (kg k)) (hC : CX k 9 cJ35_siftDownUsingComparator RJ35 none 4 77) (hQ : isQ k (PU Q)) (hin : (kt k).name = "siftDownUsingComparator") (hK5 : ∀ (v0 : Int32) (v5 : Int32) (M : hM), K5 v0 v5 M → GW k 9 M 5 [some (.int v0), some (va_rf p1), some (va_rf p2), some (.int p3), some (va_rf p4), some (.int v5), none, none, none] []) : ∀ (v0 : Int32) (v5 : Int32) (v6 : Int32) (v7 : Option Nat) (M : hM), w_J35_siftDownUsingComparator_61 (kg k) F p1 p2 p3 p4 Q K5 v0 v5 v6 v7 M → GW k 9 M 61 [some (.int v0), some (va_rf p1), some (va_rf p2), some (.int p3), some (va_rf p4), some (.int v5), some (.int v6), some (va_rf v7), none] [] := by
  intro v0 v5 v6 v7 M hw
  refine G_aload (pc := 61) (i := 4) hC dJ35_siftDownUsingComparator_61 rfl ?_
  refine G_aload_n (pc := 63) (i := 1) hC dJ35_siftDownUsingComparator_63 rfl rfl ?_
  refine G_aload (pc := 64) (i := 7) hC dJ35_siftDownUsingComparator_64 rfl ?_
  obtain ⟨b2, rfl, hb, hw⟩ := gThis_e hw
  refine G_callF (pc := 66) (n := 2) (x := ⟨"java/util/Comparator", "compare", "(Ljava/lang/Object;Ljava/lang/Object;)I"⟩) (C := "MergeWorkbench$MoveOrder") (ci := 13) (T := TX14) (N := 0) (b := b2) (As := [va_rf p1, va_rf v7]) (rest := []) hC (m_Y14_compare hJ hw) (lw_F q1906 q1910 q1912 q144 q1914) (nw_in q1908 rfl) (nw_in q1907 rfl) (nw_in q1913 rfl) (nw_in q1911 rfl) (nw_in q1909 rfl) rfl (rcv (C := RX14) (T := TX14) (N := 0) hC hb rfl) (by decide +kernel) (by decide) rfl rfl (st_c cat_e (Nat.le_of_ble_eq_true rfl)) dJ35_siftDownUsingComparator_66 (kI fun x3 M1 hw => ?_)
  refine G_if_gt (pc := 71) (tgt := 77) hC dJ35_siftDownUsingComparator_71 (by decide) (fun hc => ?_) (fun hc => ?_)
  · replace hw := hw.1 hc
    refine G_aload_n (pc := 77) (i := 2) hC dJ35_siftDownUsingComparator_77 rfl rfl ?_
    refine G_iload_n (pc := 78) (i := 0) hC dJ35_siftDownUsingComparator_78 rfl rfl ?_
    refine G_aload (pc := 79) (i := 7) hC dJ35_siftDownUsingComparator_79 rfl ?_
    refine G_aastO (pc := 81) hJ hC dJ35_siftDownUsingComparator_81 hw (fun M4 hw => ?_)
    refine G_iload (pc := 82) (i := 6) hC dJ35_siftDownUsingComparator_82 rfl ?_
    refine G_istore_n (pc := 84) (i := 0) (lw := [some (.int v6), some (va_rf p1), some (va_rf p2), some (.int p3), some (va_rf (some b2)), some (.int v5), some (.int v6), some (va_rf v7), none]) hC dJ35_siftDownUsingComparator_84 rfl (Nat.le_of_ble_eq_true rfl) rfl ?_
    refine G_goto (pc := 85) (tgt := 5) hC dJ35_siftDownUsingComparator_85 (by decide) ?_
    refine G_loc (lv' := [some (.int v6), some (va_rf p1), some (va_rf p2), some (.int p3), some (va_rf (some b2)), some (.int v5), none, none, none]) ⟨Or.inr rfl, Or.inr rfl, Or.inr rfl, Or.inr rfl, Or.inr rfl, Or.inr rfl, Or.inl rfl, Or.inl rfl, Or.inr rfl, trivial⟩ ?_
    exact hK5 v6 v5 M4 hw
  · replace hw := hw.2 hc
    refine G_goto (pc := 74) (tgt := 88) hC dJ35_siftDownUsingComparator_74 (by decide) ?_
    refine G_loc (lv' := [some (.int v0), some (va_rf p1), some (va_rf p2), some (.int p3), some (va_rf (some b2)), none, none, none, none]) ⟨Or.inr rfl, Or.inr rfl, Or.inr rfl, Or.inr rfl, Or.inr rfl, Or.inl rfl, Or.inl rfl, Or.inl rfl, Or.inr rfl, trivial⟩ ?_
    exact g_J35_siftDownUsingComparator_88 hJ hC hQ hin  v0 M1 hw
theorem g_J35_siftDownUsingComparator_5 {k : kT} {F : Nat} {p1 : Option Nat} {p2 : Option Nat} {p3 : Int32} {p4 : Option Nat} {Q : hM → Prop} (hJ : JK (kl k) (kg k)) (hC : CX k 9 cJ35_siftDownUsingComparator RJ35 none 4 77) (hQ : isQ k (PU Q)) (hin : (kt k).name = "siftDownUsingComparator") : ∀ (n : Nat) (v0 : Int32) (v5 : Int32) (M : hM), w_J35_siftDownUsingComparator_5 (kg k) F p1 p2 p3 p4 Q n v0 v5 M → GW k 9 M 5 [some (.int v0), some (va_rf p1), some (va_rf p2), some (.int p3), some (va_rf p4), some (.int v5), none, none, none] [] := by
  intro n
  induction n with
  | zero =>
    intro v0 v5 M hw
    exact hw.elim
  | succ n ih =>
    intro v0 v5 M hw
    refine G_iload_n (pc := 5) (i := 0) hC dJ35_siftDownUsingComparator_5 rfl rfl ?_
    refine G_iload (pc := 6) (i := 5) hC dJ35_siftDownUsingComparator_6 rfl ?_
    refine G_icmp_ge (pc := 8) (tgt := 88) hC dJ35_siftDownUsingComparator_8 (by decide) (fun hc => ?_) (fun hc => ?_)
    · replace hw := hw.1 hc
      refine G_loc (lv' := [some (.int v0), some (va_rf p1), some (va_rf p2), some (.int p3), some (va_rf p4), none, none, none, none]) ⟨Or.inr rfl, Or.inr rfl, Or.inr rfl, Or.inr rfl, Or.inr rfl, Or.inl rfl, Or.inr rfl, Or.inr rfl, Or.inr rfl, trivial⟩ ?_
      exact g_J35_siftDownUsingComparator_88 hJ hC hQ hin  v0 M hw
    · replace hw := hw.2 hc
      refine G_iload_n (pc := 11) (i := 0) hC dJ35_siftDownUsingComparator_11 rfl rfl ?_
      refine G_iconst (pc := 12) (v := 1) hC dJ35_siftDownUsingComparator_12 (by decide) ?_
      refine G_ishl (pc := 13) hC dJ35_siftDownUsingComparator_13 ?_
      refine G_iconst (pc := 14) (v := 1) hC dJ35_siftDownUsingComparator_14 (by decide) ?_
      refine G_iadd (pc := 15) hC dJ35_siftDownUsingComparator_15 ?_
      refine G_istore (pc := 16) (i := 6) (lw := [some (.int v0), some (va_rf p1), some (va_rf p2), some (.int p3), some (va_rf p4), some (.int v5), some (.int ((v0 <<< ((1 : Int32) &&& 31)) + (1 : Int32))), none, none]) hC dJ35_siftDownUsingComparator_16 (Nat.le_of_ble_eq_true rfl) rfl ?_
      refine G_aload_n (pc := 18) (i := 2) hC dJ35_siftDownUsingComparator_18 rfl rfl ?_
      refine G_iload (pc := 19) (i := 6) hC dJ35_siftDownUsingComparator_19 rfl ?_
      refine G_aald (pc := 21) hC dJ35_siftDownUsingComparator_21 hw (fun x1 hw => ?_)
      refine G_astore (pc := 22) (i := 7) (lw := [some (.int v0), some (va_rf p1), some (va_rf p2), some (.int p3), some (va_rf p4), some (.int v5), some (.int ((v0 <<< ((1 : Int32) &&& 31)) + (1 : Int32))), some (va_rf x1), none]) hC dJ35_siftDownUsingComparator_22 (Nat.le_of_ble_eq_true rfl) rfl ?_
      refine G_iload (pc := 24) (i := 6) hC dJ35_siftDownUsingComparator_24 rfl ?_
      refine G_iconst (pc := 26) (v := 1) hC dJ35_siftDownUsingComparator_26 (by decide) ?_
      refine G_iadd (pc := 27) hC dJ35_siftDownUsingComparator_27 ?_
      refine G_istore (pc := 28) (i := 8) (lw := [some (.int v0), some (va_rf p1), some (va_rf p2), some (.int p3), some (va_rf p4), some (.int v5), some (.int ((v0 <<< ((1 : Int32) &&& 31)) + (1 : Int32))), some (va_rf x1), some (.int (((v0 <<< ((1 : Int32) &&& 31)) + (1 : Int32)) + (1 : Int32)))]) hC dJ35_siftDownUsingComparator_28 (Nat.le_of_ble_eq_true rfl) rfl ?_
      refine G_iload (pc := 30) (i := 8) hC dJ35_siftDownUsingComparator_30 rfl ?_
      refine G_iload_n (pc := 32) (i := 3) hC dJ35_siftDownUsingComparator_32 rfl rfl ?_
      refine G_icmp_ge (pc := 33) (tgt := 61) hC dJ35_siftDownUsingComparator_33 (by decide) (fun hc => ?_) (fun hc => ?_)
      · replace hw := hw.1 hc
        refine G_loc (lv' := [some (.int v0), some (va_rf p1), some (va_rf p2), some (.int p3), some (va_rf p4), some (.int v5), some (.int ((v0 <<< ((1 : Int32) &&& 31)) + (1 : Int32))), some (va_rf x1), none]) ⟨Or.inr rfl, Or.inr rfl, Or.inr rfl, Or.inr rfl, Or.inr rfl, Or.inr rfl, Or.inr rfl, Or.inr rfl, Or.inl rfl, trivial⟩ ?_
        exact g_J35_siftDownUsingComparator_61 hJ hC hQ hin ih  v0 v5 ((v0 <<< ((1 : Int32) &&& 31)) + (1 : Int32)) x1 M hw
      · replace hw := hw.2 hc
        refine G_aload (pc := 36) (i := 4) hC dJ35_siftDownUsingComparator_36 rfl ?_
        refine G_aload (pc := 38) (i := 7) hC dJ35_siftDownUsingComparator_38 rfl ?_
        refine G_aload_n (pc := 40) (i := 2) hC dJ35_siftDownUsingComparator_40 rfl rfl ?_
        refine G_iload (pc := 41) (i := 8) hC dJ35_siftDownUsingComparator_41 rfl ?_
        refine G_aald (pc := 43) hC dJ35_siftDownUsingComparator_43 hw (fun x2 hw => ?_)
        obtain ⟨b4, rfl, hb, hw⟩ := gThis_e hw
        refine G_callF (pc := 44) (n := 2) (x := ⟨"java/util/Comparator", "compare", "(Ljava/lang/Object;Ljava/lang/Object;)I"⟩) (C := "MergeWorkbench$MoveOrder") (ci := 13) (T := TX14) (N := 0) (b := b4) (As := [va_rf x1, va_rf x2]) (rest := []) hC (m_Y14_compare hJ hw) (lw_F q1906 q1910 q1912 q144 q1914) (nw_in q1908 rfl) (nw_in q1907 rfl) (nw_in q1913 rfl) (nw_in q1911 rfl) (nw_in q1909 rfl) rfl (rcv (C := RX14) (T := TX14) (N := 0) hC hb rfl) (by decide +kernel) (by decide) rfl rfl (st_c cat_e (Nat.le_of_ble_eq_true rfl)) dJ35_siftDownUsingComparator_44 (kI fun x5 M3 hw => ?_)
        refine G_if_le (pc := 49) (tgt := 61) hC dJ35_siftDownUsingComparator_49 (by decide) (fun hc => ?_) (fun hc => ?_)
        · replace hw := hw.1 hc
          refine G_loc (lv' := [some (.int v0), some (va_rf p1), some (va_rf p2), some (.int p3), some (va_rf (some b4)), some (.int v5), some (.int ((v0 <<< ((1 : Int32) &&& 31)) + (1 : Int32))), some (va_rf x1), none]) ⟨Or.inr rfl, Or.inr rfl, Or.inr rfl, Or.inr rfl, Or.inr rfl, Or.inr rfl, Or.inr rfl, Or.inr rfl, Or.inl rfl, trivial⟩ ?_
          exact g_J35_siftDownUsingComparator_61 hJ hC hQ hin ih  v0 v5 ((v0 <<< ((1 : Int32) &&& 31)) + (1 : Int32)) x1 M3 hw
        · replace hw := hw.2 hc
          refine G_aload_n (pc := 52) (i := 2) hC dJ35_siftDownUsingComparator_52 rfl rfl ?_
          refine G_iload (pc := 53) (i := 8) hC dJ35_siftDownUsingComparator_53 rfl ?_
          refine G_dup (pc := 55) hC dJ35_siftDownUsingComparator_55 rfl ?_
          refine G_istore (pc := 56) (i := 6) (lw := [some (.int v0), some (va_rf p1), some (va_rf p2), some (.int p3), some (va_rf (some b4)), some (.int v5), some (.int (((v0 <<< ((1 : Int32) &&& 31)) + (1 : Int32)) + (1 : Int32))), some (va_rf x1), some (.int (((v0 <<< ((1 : Int32) &&& 31)) + (1 : Int32)) + (1 : Int32)))]) hC dJ35_siftDownUsingComparator_56 (Nat.le_of_ble_eq_true rfl) rfl ?_
          refine G_aald (pc := 58) hC dJ35_siftDownUsingComparator_58 hw (fun x6 hw => ?_)
          refine G_astore (pc := 59) (i := 7) (lw := [some (.int v0), some (va_rf p1), some (va_rf p2), some (.int p3), some (va_rf (some b4)), some (.int v5), some (.int (((v0 <<< ((1 : Int32) &&& 31)) + (1 : Int32)) + (1 : Int32))), some (va_rf x6), some (.int (((v0 <<< ((1 : Int32) &&& 31)) + (1 : Int32)) + (1 : Int32)))]) hC dJ35_siftDownUsingComparator_59 (Nat.le_of_ble_eq_true rfl) rfl ?_
          refine G_loc (lv' := [some (.int v0), some (va_rf p1), some (va_rf p2), some (.int p3), some (va_rf (some b4)), some (.int v5), some (.int (((v0 <<< ((1 : Int32) &&& 31)) + (1 : Int32)) + (1 : Int32))), some (va_rf x6), none]) ⟨Or.inr rfl, Or.inr rfl, Or.inr rfl, Or.inr rfl, Or.inr rfl, Or.inr rfl, Or.inr rfl, Or.inr rfl, Or.inl rfl, trivial⟩ ?_
          exact g_J35_siftDownUsingComparator_61 hJ hC hQ hin ih  v0 v5 (((v0 <<< ((1 : Int32) &&& 31)) + (1 : Int32)) + (1 : Int32)) x6 M3 hw
theorem m_J35_siftDownUsingComparator {l : Launch} {g : gT} {F : Nat} {p0 : Int32} {p1 : Option Nat} {p2 : Option Nat} {p3 : Int32} {p4 : Option Nat} {M : hM} {Q : hM → Prop} (hJ : JK l g) (hw : w_J35_siftDownUsingComparator g F p0 p1 p2 p3 p4 M Q) : MG l g yJ35_siftDownUsingComparator (ws_ yJ35_siftDownUsingComparator cJ35_siftDownUsingComparator 9 none) 4 77 [.int p0, va_rf p1, va_rf p2, .int p3, va_rf p4] M (PU Q) := by
  refine MG_of hJ.2.1 (by decide) (cat_i (cat_r (cat_r (cat_i (cat_r cat_e))))) (Nat.le_of_ble_eq_true rfl) (fun k hl hg hin hQ hC => ?_)
  subst hl hg
  show GW k 9 M 0 [some (.int p0), some (va_rf p1), some (va_rf p2), some (.int p3), some (va_rf p4), none, none, none, none] []
  refine G_iload_n (pc := 0) (i := 3) hC dJ35_siftDownUsingComparator_0 rfl rfl ?_
  refine G_iconst (pc := 1) (v := 1) hC dJ35_siftDownUsingComparator_1 (by decide) ?_
  refine G_iushr (pc := 2) hC dJ35_siftDownUsingComparator_2 ?_
  refine G_istore (pc := 3) (i := 5) (lw := [some (.int p0), some (va_rf p1), some (va_rf p2), some (.int p3), some (va_rf p4), some (.int ((p3).toUInt32 >>> (((1 : Int32)).toUInt32 &&& Int32.toUInt32 31)).toInt32), none, none, none]) hC dJ35_siftDownUsingComparator_3 (Nat.le_of_ble_eq_true rfl) rfl ?_
  exact g_J35_siftDownUsingComparator_5 hJ hC hQ hin _ p0 ((p3).toUInt32 >>> (((1 : Int32)).toUInt32 &&& Int32.toUInt32 31)).toInt32 M hw
def w_J35_siftDownComparable_94 (g : gT) (F : Nat) (p1 : Option Nat) (p2 : Option Nat) (p3 : Int32) (Q : hM → Prop) (v0 : Int32) (v4 : Option Nat) (M : hM) : Prop :=
  sR g M p2 v0 v4 fun M1 => Q M1
def w_J35_siftDownComparable_68 (g : gT) (F : Nat) (p1 : Option Nat) (p2 : Option Nat) (p3 : Int32) (Q : hM → Prop) (K11 : Int32 → (Option Nat) → Int32 → hM → Prop) (v0 : Int32) (v4 : Option Nat) (v5 : Int32) (v6 : Int32) (v7 : Option Nat) (M : hM) : Prop :=
  False
def w_J35_siftDownComparable_11 (g : gT) (F : Nat) (p1 : Option Nat) (p2 : Option Nat) (p3 : Int32) (Q : hM → Prop) : Nat → Int32 → (Option Nat) → Int32 → hM → Prop
  | 0, _, _, _, _ => False
  | n + 1, v0, v4, v5, M => ((v5 ≤ v0 → w_J35_siftDownComparable_94 g F p1 p2 p3 Q v0 v4 M) ∧ (¬ (v5 ≤ v0) → aR M p2 ((v0 <<< ((1 : Int32) &&& 31)) + (1 : Int32)) fun x1 => ((p3 ≤ (((v0 <<< ((1 : Int32) &&& 31)) + (1 : Int32)) + (1 : Int32)) → w_J35_siftDownComparable_68 g F p1 p2 p3 Q (fun v0 v4 v5 M => w_J35_siftDownComparable_11 g F p1 p2 p3 Q n v0 v4 v5 M) v0 v4 v5 ((v0 <<< ((1 : Int32) &&& 31)) + (1 : Int32)) x1 M) ∧ (¬ (p3 ≤ (((v0 <<< ((1 : Int32) &&& 31)) + (1 : Int32)) + (1 : Int32))) → ckB g M x1 (aR M p2 (((v0 <<< ((1 : Int32) &&& 31)) + (1 : Int32)) + (1 : Int32)) fun x2 => False)))))
def w_J35_siftDownComparable (g : gT) (F : Nat) (p0 : Int32) (p1 : Option Nat) (p2 : Option Nat) (p3 : Int32) (M : hM) (Q : hM → Prop) : Prop :=
  ckB g M p1 (w_J35_siftDownComparable_11 g F p1 p2 p3 Q F p0 p1 ((p3).toUInt32 >>> (((1 : Int32)).toUInt32 &&& Int32.toUInt32 31)).toInt32 M)
theorem g_J35_siftDownComparable_94 {k : kT} {F : Nat} {p1 : Option Nat} {p2 : Option Nat} {p3 : Int32} {Q : hM → Prop} (hJ : JK (kl k) (kg k)) (hC : CX k 9 cJ35_siftDownComparable RJ35 none 1 12) (hQ : isQ k (PU Q)) (hin : (kt k).name = "siftDownComparable") : ∀ (v0 : Int32) (v4 : Option Nat) (M : hM), w_J35_siftDownComparable_94 (kg k) F p1 p2 p3 Q v0 v4 M → GW k 9 M 94 [some (.int v0), some (va_rf p1), some (va_rf p2), some (.int p3), some (va_rf v4), none, none, none, none] [] := by
  intro v0 v4 M hw
  refine G_aload_n (pc := 94) (i := 2) hC dJ35_siftDownComparable_94 rfl rfl ?_
  refine G_iload_n (pc := 95) (i := 0) hC dJ35_siftDownComparable_95 rfl rfl ?_
  refine G_aload (pc := 96) (i := 4) hC dJ35_siftDownComparable_96 rfl ?_
  refine G_aastO (pc := 98) hJ hC dJ35_siftDownComparable_98 hw (fun M1 hw => ?_)
  exact G_ret (pc := 99) hC hQ dJ35_siftDownComparable_99 hw
theorem g_J35_siftDownComparable_68 {k : kT} {F : Nat} {p1 : Option Nat} {p2 : Option Nat} {p3 : Int32} {Q : hM → Prop} {K11 : Int32 → (Option Nat) → Int32 → hM → Prop} (hJ : JK (kl k) (kg k)) (hC : CX k 9 cJ35_siftDownComparable RJ35 none 1 12) (hQ : isQ k (PU Q)) (hin : (kt k).name = "siftDownComparable") (hK11 : ∀ (v0 : Int32) (v4 : Option Nat) (v5 : Int32) (M : hM), K11 v0 v4 v5 M → GW k 9 M 11 [some (.int v0), some (va_rf p1), some (va_rf p2), some (.int p3), some (va_rf v4), some (.int v5), none, none, none] []) : ∀ (v0 : Int32) (v4 : Option Nat) (v5 : Int32) (v6 : Int32) (v7 : Option Nat) (M : hM), w_J35_siftDownComparable_68 (kg k) F p1 p2 p3 Q K11 v0 v4 v5 v6 v7 M → GW k 9 M 68 [some (.int v0), some (va_rf p1), some (va_rf p2), some (.int p3), some (va_rf v4), some (.int v5), some (.int v6), some (va_rf v7), none] [] := by
  intro v0 v4 v5 v6 v7 M hw
  refine G_aload (pc := 68) (i := 4) hC dJ35_siftDownComparable_68 rfl ?_
  refine G_aload (pc := 70) (i := 7) hC dJ35_siftDownComparable_70 rfl ?_
  exact hw.elim
theorem g_J35_siftDownComparable_11 {k : kT} {F : Nat} {p1 : Option Nat} {p2 : Option Nat} {p3 : Int32} {Q : hM → Prop} (hJ : JK (kl k) (kg k)) (hC : CX k 9 cJ35_siftDownComparable RJ35 none 1 12) (hQ : isQ k (PU Q)) (hin : (kt k).name = "siftDownComparable") : ∀ (n : Nat) (v0 : Int32) (v4 : Option Nat) (v5 : Int32) (M : hM), w_J35_siftDownComparable_11 (kg k) F p1 p2 p3 Q n v0 v4 v5 M → GW k 9 M 11 [some (.int v0), some (va_rf p1), some (va_rf p2), some (.int p3), some (va_rf v4), some (.int v5), none, none, none] [] := by
  intro n
  induction n with
  | zero =>
    intro v0 v4 v5 M hw
    exact hw.elim
  | succ n ih =>
    intro v0 v4 v5 M hw
    refine G_iload_n (pc := 11) (i := 0) hC dJ35_siftDownComparable_11 rfl rfl ?_
    refine G_iload (pc := 12) (i := 5) hC dJ35_siftDownComparable_12 rfl ?_
    refine G_icmp_ge (pc := 14) (tgt := 94) hC dJ35_siftDownComparable_14 (by decide) (fun hc => ?_) (fun hc => ?_)
    · replace hw := hw.1 hc
      refine G_loc (lv' := [some (.int v0), some (va_rf p1), some (va_rf p2), some (.int p3), some (va_rf v4), none, none, none, none]) ⟨Or.inr rfl, Or.inr rfl, Or.inr rfl, Or.inr rfl, Or.inr rfl, Or.inl rfl, Or.inr rfl, Or.inr rfl, Or.inr rfl, trivial⟩ ?_
      exact g_J35_siftDownComparable_94 hJ hC hQ hin  v0 v4 M hw
    · replace hw := hw.2 hc
      refine G_iload_n (pc := 17) (i := 0) hC dJ35_siftDownComparable_17 rfl rfl ?_
      refine G_iconst (pc := 18) (v := 1) hC dJ35_siftDownComparable_18 (by decide) ?_
      refine G_ishl (pc := 19) hC dJ35_siftDownComparable_19 ?_
      refine G_iconst (pc := 20) (v := 1) hC dJ35_siftDownComparable_20 (by decide) ?_
      refine G_iadd (pc := 21) hC dJ35_siftDownComparable_21 ?_
      refine G_istore (pc := 22) (i := 6) (lw := [some (.int v0), some (va_rf p1), some (va_rf p2), some (.int p3), some (va_rf v4), some (.int v5), some (.int ((v0 <<< ((1 : Int32) &&& 31)) + (1 : Int32))), none, none]) hC dJ35_siftDownComparable_22 (Nat.le_of_ble_eq_true rfl) rfl ?_
      refine G_aload_n (pc := 24) (i := 2) hC dJ35_siftDownComparable_24 rfl rfl ?_
      refine G_iload (pc := 25) (i := 6) hC dJ35_siftDownComparable_25 rfl ?_
      refine G_aald (pc := 27) hC dJ35_siftDownComparable_27 hw (fun x1 hw => ?_)
      refine G_astore (pc := 28) (i := 7) (lw := [some (.int v0), some (va_rf p1), some (va_rf p2), some (.int p3), some (va_rf v4), some (.int v5), some (.int ((v0 <<< ((1 : Int32) &&& 31)) + (1 : Int32))), some (va_rf x1), none]) hC dJ35_siftDownComparable_28 (Nat.le_of_ble_eq_true rfl) rfl ?_
      refine G_iload (pc := 30) (i := 6) hC dJ35_siftDownComparable_30 rfl ?_
      refine G_iconst (pc := 32) (v := 1) hC dJ35_siftDownComparable_32 (by decide) ?_
      refine G_iadd (pc := 33) hC dJ35_siftDownComparable_33 ?_
      refine G_istore (pc := 34) (i := 8) (lw := [some (.int v0), some (va_rf p1), some (va_rf p2), some (.int p3), some (va_rf v4), some (.int v5), some (.int ((v0 <<< ((1 : Int32) &&& 31)) + (1 : Int32))), some (va_rf x1), some (.int (((v0 <<< ((1 : Int32) &&& 31)) + (1 : Int32)) + (1 : Int32)))]) hC dJ35_siftDownComparable_34 (Nat.le_of_ble_eq_true rfl) rfl ?_
      refine G_iload (pc := 36) (i := 8) hC dJ35_siftDownComparable_36 rfl ?_
      refine G_iload_n (pc := 38) (i := 3) hC dJ35_siftDownComparable_38 rfl rfl ?_
      refine G_icmp_ge (pc := 39) (tgt := 68) hC dJ35_siftDownComparable_39 (by decide) (fun hc => ?_) (fun hc => ?_)
      · replace hw := hw.1 hc
        refine G_loc (lv' := [some (.int v0), some (va_rf p1), some (va_rf p2), some (.int p3), some (va_rf v4), some (.int v5), some (.int ((v0 <<< ((1 : Int32) &&& 31)) + (1 : Int32))), some (va_rf x1), none]) ⟨Or.inr rfl, Or.inr rfl, Or.inr rfl, Or.inr rfl, Or.inr rfl, Or.inr rfl, Or.inr rfl, Or.inr rfl, Or.inl rfl, trivial⟩ ?_
        exact g_J35_siftDownComparable_68 hJ hC hQ hin ih  v0 v4 v5 ((v0 <<< ((1 : Int32) &&& 31)) + (1 : Int32)) x1 M hw
      · replace hw := hw.2 hc
        refine G_aload (pc := 42) (i := 7) hC dJ35_siftDownComparable_42 rfl ?_
        obtain ⟨hb, hw⟩ := hw
        refine G_castB (pc := 44) (nm := "java/lang/Comparable") hJ.1 hC q1926 (nw_in q1678 rfl) hb dJ35_siftDownComparable_44 ?_
        refine G_aload_n (pc := 47) (i := 2) hC dJ35_siftDownComparable_47 rfl rfl ?_
        refine G_iload (pc := 48) (i := 8) hC dJ35_siftDownComparable_48 rfl ?_
        refine G_aald (pc := 50) hC dJ35_siftDownComparable_50 hw (fun x2 hw => ?_)
        exact hw.elim
theorem m_J35_siftDownComparable {l : Launch} {g : gT} {F : Nat} {p0 : Int32} {p1 : Option Nat} {p2 : Option Nat} {p3 : Int32} {M : hM} {Q : hM → Prop} (hJ : JK l g) (hw : w_J35_siftDownComparable g F p0 p1 p2 p3 M Q) : MG l g yJ35_siftDownComparable (ws_ yJ35_siftDownComparable cJ35_siftDownComparable 9 none) 1 12 [.int p0, va_rf p1, va_rf p2, .int p3] M (PU Q) := by
  refine MG_of hJ.2.1 (by decide) (cat_i (cat_r (cat_r (cat_i cat_e)))) (Nat.le_of_ble_eq_true rfl) (fun k hl hg hin hQ hC => ?_)
  subst hl hg
  show GW k 9 M 0 [some (.int p0), some (va_rf p1), some (va_rf p2), some (.int p3), none, none, none, none, none] []
  refine G_aload_n (pc := 0) (i := 1) hC dJ35_siftDownComparable_0 rfl rfl ?_
  obtain ⟨hb, hw⟩ := hw
  refine G_castB (pc := 1) (nm := "java/lang/Comparable") hJ.1 hC q1926 (nw_in q1678 rfl) hb dJ35_siftDownComparable_1 ?_
  refine G_astore (pc := 4) (i := 4) (lw := [some (.int p0), some (va_rf p1), some (va_rf p2), some (.int p3), some (va_rf p1), none, none, none, none]) hC dJ35_siftDownComparable_4 (Nat.le_of_ble_eq_true rfl) rfl ?_
  refine G_iload_n (pc := 6) (i := 3) hC dJ35_siftDownComparable_6 rfl rfl ?_
  refine G_iconst (pc := 7) (v := 1) hC dJ35_siftDownComparable_7 (by decide) ?_
  refine G_iushr (pc := 8) hC dJ35_siftDownComparable_8 ?_
  refine G_istore (pc := 9) (i := 5) (lw := [some (.int p0), some (va_rf p1), some (va_rf p2), some (.int p3), some (va_rf p1), some (.int ((p3).toUInt32 >>> (((1 : Int32)).toUInt32 &&& Int32.toUInt32 31)).toInt32), none, none, none]) hC dJ35_siftDownComparable_9 (Nat.le_of_ble_eq_true rfl) rfl ?_
  exact g_J35_siftDownComparable_11 hJ hC hQ hin _ p0 p1 ((p3).toUInt32 >>> (((1 : Int32)).toUInt32 &&& Int32.toUInt32 31)).toInt32 M hw
theorem hdK_J35_siftDownComparable : yJ35_siftDownComparable.cls = "java/util/PriorityQueue" ∧ yJ35_siftDownComparable.cls ≠ "java/lang/invoke/MethodHandle" ∧ yJ35_siftDownComparable.cls ≠ "java/lang/invoke/VarHandle" ∧ (parseMethodDescriptor yJ35_siftDownComparable.desc).map (fun d => d.parameters.length) = some 4 := by decide +kernel
theorem hdK_J35_siftDownUsingComparator : yJ35_siftDownUsingComparator.cls = "java/util/PriorityQueue" ∧ yJ35_siftDownUsingComparator.cls ≠ "java/lang/invoke/MethodHandle" ∧ yJ35_siftDownUsingComparator.cls ≠ "java/lang/invoke/VarHandle" ∧ (parseMethodDescriptor yJ35_siftDownUsingComparator.desc).map (fun d => d.parameters.length) = some 5 := by decide +kernel
def w_J35_poll_79 (g : gT) (F : Nat) (a0 : Nat) (Q : Option Nat → hM → Prop) (v2 : Option Nat) (M : hM) : Prop :=
  Q v2 M
def w_J35_poll (g : gT) (F : Nat) (a0 : Nat) (M : hM) (Q : Option Nat → hM → Prop) : Prop :=
  gF M (some a0) 29 0 fun x1 => aR M x1 (0 : Int32) fun x2 => ((x2 = none → w_J35_poll_79 g F a0 Q x2 M) ∧ (¬ x2 = none → gI M (some a0) 29 3 fun x3 => pV M (some a0) 29 3 (.int (x3 + (1 : Int32))) fun M4 => gI M4 (some a0) 29 1 fun x5 => pV M4 (some a0) 29 1 (.int (x5 - (1 : Int32))) fun M6 => aR M6 x1 (x5 - (1 : Int32)) fun x7 => sR g M6 x1 (x5 - (1 : Int32)) none fun M8 => (((x5 - (1 : Int32)) ≤ 0 → w_J35_poll_79 g F a0 Q x2 M8) ∧ (¬ ((x5 - (1 : Int32)) ≤ 0) → gF M8 (some a0) 29 2 fun x9 => ((¬ x9 = none → w_J35_siftDownUsingComparator g F (0 : Int32) x7 x1 (x5 - (1 : Int32)) x9 M8 (fun M10 => w_J35_poll_79 g F a0 Q x2 M10)) ∧ (x9 = none → w_J35_siftDownComparable g F (0 : Int32) x7 x1 (x5 - (1 : Int32)) M8 (fun M11 => w_J35_poll_79 g F a0 Q x2 M11)))))))
theorem g_J35_poll_79 {k : kT} {F : Nat} {a0 : Nat} {Q : Option Nat → hM → Prop} (hJ : JK (kl k) (kg k)) (hC : CX k 6 cJ35_poll RJ35 (some (.object "java/lang/Object")) 5 105) (hQ : isQ k (PR Q)) (hin : (kt k).name = "poll") : ∀ (v2 : Option Nat) (M : hM), w_J35_poll_79 (kg k) F a0 Q v2 M → GW k 6 M 79 [some (va_rf (some a0)), none, some (va_rf v2), none, none, none] [] := by
  intro v2 M hw
  refine G_aload_n (pc := 79) (i := 2) hC dJ35_poll_79 rfl rfl ?_
  exact G_aret (pc := 80) hC (Or.inl ⟨_, rfl⟩) hQ dJ35_poll_80 hw
theorem m_J35_poll {l : Launch} {g : gT} {F : Nat} {a0 : Nat} {M : hM} {Q : Option Nat → hM → Prop} (hJ : JK l g) (hw : w_J35_poll g F a0 M Q) : MG l g yJ35_poll (ws_ yJ35_poll cJ35_poll 6 (some (.object "java/lang/Object"))) 5 105 [va_rf (some a0)] M (PR Q) := by
  refine MG_of hJ.2.1 (by decide) (cat_r cat_e) (Nat.le_of_ble_eq_true rfl) (fun k hl hg hin hQ hC => ?_)
  subst hl hg
  show GW k 6 M 0 [some (va_rf (some a0)), none, none, none, none, none] []
  refine G_aload_n (pc := 0) (i := 0) hC dJ35_poll_0 rfl rfl ?_
  refine G_getF (pc := 1) (ci := 29) (C := RJ35) (T := TJ35) (N := 4) (f := 0) hC rfl in_J35 (Nat.le_of_ble_eq_true rfl) q2690 (fun _ h => h) dJ35_poll_1 hw (fun x1 hw => ?_)
  refine G_dup (pc := 4) hC dJ35_poll_4 (rf_cat _) ?_
  refine G_astore_n (pc := 5) (i := 1) (lw := [some (va_rf (some a0)), some (va_rf x1), none, none, none, none]) hC dJ35_poll_5 rfl (Nat.le_of_ble_eq_true rfl) rfl ?_
  refine G_iconst (pc := 6) (v := 0) hC dJ35_poll_6 (by decide) ?_
  refine G_aald (pc := 7) hC dJ35_poll_7 hw (fun x2 hw => ?_)
  refine G_dup (pc := 8) hC dJ35_poll_8 (rf_cat _) ?_
  refine G_astore_n (pc := 9) (i := 2) (lw := [some (va_rf (some a0)), some (va_rf x1), some (va_rf x2), none, none, none]) hC dJ35_poll_9 rfl (Nat.le_of_ble_eq_true rfl) rfl ?_
  refine G_ifnull (pc := 10) (tgt := 79) hC dJ35_poll_10 (by decide) (fun hc => ?_) (fun hc => ?_)
  · replace hw := hw.1 hc
    refine G_loc (lv' := [some (va_rf (some a0)), none, some (va_rf x2), none, none, none]) ⟨Or.inr rfl, Or.inl rfl, Or.inr rfl, Or.inr rfl, Or.inr rfl, Or.inr rfl, trivial⟩ ?_
    exact g_J35_poll_79 hJ hC hQ hin  x2 M hw
  · replace hw := hw.2 hc
    refine G_aload_n (pc := 13) (i := 0) hC dJ35_poll_13 rfl rfl ?_
    refine G_dup (pc := 14) hC dJ35_poll_14 (rf_cat _) ?_
    refine G_getI (pc := 15) (ci := 29) (C := RJ35) (T := TJ35) (N := 4) (f := 3) hC rfl in_J35 (Nat.le_of_ble_eq_true rfl) q2695 (fun _ h => h) dJ35_poll_15 hw (fun x3 hw => ?_)
    refine G_iconst (pc := 18) (v := 1) hC dJ35_poll_18 (by decide) ?_
    refine G_iadd (pc := 19) hC dJ35_poll_19 ?_
    refine G_put (pc := 20) (ci := 29) (C := RJ35) (T := TJ35) (N := 4) (f := 3) tyJ35 hC rfl in_J35 tyJ35_ok nmJ35 (Nat.le_of_ble_eq_true rfl) q2695 (fun _ h => h) rfl rfl rfl dJ35_poll_20 hw (fun M4 hw => ?_)
    refine G_aload_n (pc := 23) (i := 1) hC dJ35_poll_23 rfl rfl ?_
    refine G_aload_n (pc := 24) (i := 0) hC dJ35_poll_24 rfl rfl ?_
    refine G_dup (pc := 25) hC dJ35_poll_25 (rf_cat _) ?_
    refine G_getI (pc := 26) (ci := 29) (C := RJ35) (T := TJ35) (N := 4) (f := 1) hC rfl in_J35 (Nat.le_of_ble_eq_true rfl) q2692 (fun _ h => h) dJ35_poll_26 hw (fun x5 hw => ?_)
    refine G_iconst (pc := 29) (v := 1) hC dJ35_poll_29 (by decide) ?_
    refine G_isub (pc := 30) hC dJ35_poll_30 ?_
    refine G_dup_x1 (pc := 31) hC dJ35_poll_31 rfl (rf_cat _) ?_
    refine G_put (pc := 32) (ci := 29) (C := RJ35) (T := TJ35) (N := 4) (f := 1) tyJ35 hC rfl in_J35 tyJ35_ok nmJ35 (Nat.le_of_ble_eq_true rfl) q2692 (fun _ h => h) rfl rfl rfl dJ35_poll_32 hw (fun M6 hw => ?_)
    refine G_dup (pc := 35) hC dJ35_poll_35 rfl ?_
    refine G_istore_n (pc := 36) (i := 3) (lw := [some (va_rf (some a0)), some (va_rf x1), some (va_rf x2), some (.int (x5 - (1 : Int32))), none, none]) hC dJ35_poll_36 rfl (Nat.le_of_ble_eq_true rfl) rfl ?_
    refine G_aald (pc := 37) hC dJ35_poll_37 hw (fun x7 hw => ?_)
    refine G_astore (pc := 38) (i := 4) (lw := [some (va_rf (some a0)), some (va_rf x1), some (va_rf x2), some (.int (x5 - (1 : Int32))), some (va_rf x7), none]) hC dJ35_poll_38 (Nat.le_of_ble_eq_true rfl) rfl ?_
    refine G_aload_n (pc := 40) (i := 1) hC dJ35_poll_40 rfl rfl ?_
    refine G_iload_n (pc := 41) (i := 3) hC dJ35_poll_41 rfl rfl ?_
    refine G_null (pc := 42) hC dJ35_poll_42 ?_
    refine G_aastO (pc := 43) hJ hC dJ35_poll_43 hw (fun M8 hw => ?_)
    refine G_iload_n (pc := 44) (i := 3) hC dJ35_poll_44 rfl rfl ?_
    refine G_if_le (pc := 45) (tgt := 79) hC dJ35_poll_45 (by decide) (fun hc => ?_) (fun hc => ?_)
    · replace hw := hw.1 hc
      refine G_loc (lv' := [some (va_rf (some a0)), none, some (va_rf x2), none, none, none]) ⟨Or.inr rfl, Or.inl rfl, Or.inr rfl, Or.inl rfl, Or.inl rfl, Or.inr rfl, trivial⟩ ?_
      exact g_J35_poll_79 hJ hC hQ hin  x2 M8 hw
    · replace hw := hw.2 hc
      refine G_aload_n (pc := 48) (i := 0) hC dJ35_poll_48 rfl rfl ?_
      refine G_getF (pc := 49) (ci := 29) (C := RJ35) (T := TJ35) (N := 4) (f := 2) hC rfl in_J35 (Nat.le_of_ble_eq_true rfl) q2693 (fun _ h => h) dJ35_poll_49 hw (fun x9 hw => ?_)
      refine G_dup (pc := 52) hC dJ35_poll_52 (rf_cat _) ?_
      refine G_astore (pc := 53) (i := 5) (lw := [some (va_rf (some a0)), some (va_rf x1), some (va_rf x2), some (.int (x5 - (1 : Int32))), some (va_rf x7), some (va_rf x9)]) hC dJ35_poll_53 (Nat.le_of_ble_eq_true rfl) rfl ?_
      refine G_ifnonnull (pc := 55) (tgt := 69) hC dJ35_poll_55 (by decide) (fun hc => ?_) (fun hc => ?_)
      · replace hw := hw.1 hc
        refine G_iconst (pc := 69) (v := 0) hC dJ35_poll_69 (by decide) ?_
        refine G_aload (pc := 70) (i := 4) hC dJ35_poll_70 rfl ?_
        refine G_aload_n (pc := 72) (i := 1) hC dJ35_poll_72 rfl rfl ?_
        refine G_iload_n (pc := 73) (i := 3) hC dJ35_poll_73 rfl rfl ?_
        refine G_aload (pc := 74) (i := 5) hC dJ35_poll_74 rfl ?_
        refine G_callS (pc := 76) (n := 5) (As := [.int (0 : Int32), va_rf x7, va_rf x1, .int (x5 - (1 : Int32)), va_rf x9]) (rest := []) hC (m_J35_siftDownUsingComparator hJ hw) (lw_S q2760 q2761 q129 q2762) hdK_J35_siftDownUsingComparator.2 (by decide) rfl rfl (st_c cat_e (Nat.le_of_ble_eq_true rfl)) dJ35_poll_76 (kU fun M10 hw => ?_)
        refine G_loc (lv' := [some (va_rf (some a0)), none, some (va_rf x2), none, none, none]) ⟨Or.inr rfl, Or.inl rfl, Or.inr rfl, Or.inl rfl, Or.inl rfl, Or.inl rfl, trivial⟩ ?_
        exact g_J35_poll_79 hJ hC hQ hin  x2 M10 hw
      · replace hw := hw.2 hc
        refine G_iconst (pc := 58) (v := 0) hC dJ35_poll_58 (by decide) ?_
        refine G_aload (pc := 59) (i := 4) hC dJ35_poll_59 rfl ?_
        refine G_aload_n (pc := 61) (i := 1) hC dJ35_poll_61 rfl rfl ?_
        refine G_iload_n (pc := 62) (i := 3) hC dJ35_poll_62 rfl rfl ?_
        refine G_callS (pc := 63) (n := 4) (As := [.int (0 : Int32), va_rf x7, va_rf x1, .int (x5 - (1 : Int32))]) (rest := []) hC (m_J35_siftDownComparable hJ hw) (lw_S q2757 q2758 q129 q2759) hdK_J35_siftDownComparable.2 (by decide) rfl rfl (st_c cat_e (Nat.le_of_ble_eq_true rfl)) dJ35_poll_63 (kU fun M11 hw => ?_)
        refine G_goto (pc := 66) (tgt := 79) hC dJ35_poll_66 (by decide) ?_
        refine G_loc (lv' := [some (va_rf (some a0)), none, some (va_rf x2), none, none, none]) ⟨Or.inr rfl, Or.inl rfl, Or.inr rfl, Or.inl rfl, Or.inl rfl, Or.inl rfl, trivial⟩ ?_
        exact g_J35_poll_79 hJ hC hQ hin  x2 M11 hw
def w_J34_remove_s29 (g : gT) (F : Nat) (a0 : Nat) (M : hM) (Q : Option Nat → hM → Prop) : Prop :=
  (isC M a0 29 ∧ w_J35_poll g F a0  M (fun x2 M1 => ((x2 = none → False) ∧ (¬ x2 = none → Q x2 M1))))
theorem m_J34_remove_s29 {l : Launch} {g : gT} {F : Nat} {a0 : Nat} {M : hM} {Q : Option Nat → hM → Prop} (hJ : JK l g) (hw : w_J34_remove_s29 g F a0 M Q) : MG l g yJ34_remove (ws_ yJ34_remove cJ34_remove 2 (some (.object "java/lang/Object"))) 6 130 [va_rf (some a0)] M (PR Q) := by
  refine MG_of hJ.2.1 (by decide) (cat_r cat_e) (Nat.le_of_ble_eq_true rfl) (fun k hl hg hin hQ hC => ?_)
  subst hl hg
  show GW k 2 M 0 [some (va_rf (some a0)), none] []
  refine G_aload_n (pc := 0) (i := 0) hC dJ34_remove_0 rfl rfl ?_
  obtain ⟨hb, hw⟩ := hw
  refine G_callAN (pc := 1) (n := 0) (x := ⟨"java/util/AbstractQueue", "poll", "()Ljava/lang/Object;"⟩) (owner := "java/util/Queue") (C := "java/util/PriorityQueue") (b := a0) (As := []) (rest := []) hC (m_J35_poll hJ hw) (xt_in 4 rfl) (xt_in 5 rfl) (nw_in q2753 rfl) q2754 q2755 q129 q2756 (rcv (C := RJ35) (T := TJ35) (N := 4) hC hb rfl) (by decide +kernel) (by decide) rfl rfl (st_c cat_e (Nat.le_of_ble_eq_true rfl)) dJ34_remove_1 (kRf fun x2 M1 hw => ?_)
  refine G_astore_n (pc := 4) (i := 1) (lw := [some (va_rf (some a0)), some (va_rf x2)]) hC dJ34_remove_4 rfl (Nat.le_of_ble_eq_true rfl) rfl ?_
  refine G_aload_n (pc := 5) (i := 1) hC dJ34_remove_5 rfl rfl ?_
  refine G_ifnull (pc := 6) (tgt := 11) hC dJ34_remove_6 (by decide) (fun hc => ?_) (fun hc => ?_)
  · replace hw := hw.1 hc
    exact hw.elim
  · replace hw := hw.2 hc
    refine G_aload_n (pc := 9) (i := 1) hC dJ34_remove_9 rfl rfl ?_
    exact G_aret (pc := 10) hC (Or.inl ⟨_, rfl⟩) hQ dJ34_remove_10 hw
def w_J10_rangeCheck (g : gT) (F : Nat) (p0 : Int32) (p1 : Int32) (p2 : Int32) (M : hM) (Q : hM → Prop) : Prop :=
  ((p1 ≤ p2 → ((0 ≤ p1 → ((p2 ≤ p0 → Q M) ∧ (¬ (p2 ≤ p0) → False))) ∧ (¬ (0 ≤ p1) → False))) ∧ (¬ (p1 ≤ p2) → False))
theorem m_J10_rangeCheck {l : Launch} {g : gT} {F : Nat} {p0 : Int32} {p1 : Int32} {p2 : Int32} {M : hM} {Q : hM → Prop} (hJ : JK l g) (hw : w_J10_rangeCheck g F p0 p1 p2 M Q) : MG l g yJ10_rangeCheck (ws_ yJ10_rangeCheck cJ10_rangeCheck 3 none) 1 12 [.int p0, .int p1, .int p2] M (PU Q) := by
  refine MG_of hJ.2.1 (by decide) (cat_i (cat_i (cat_i cat_e))) (Nat.le_of_ble_eq_true rfl) (fun k hl hg hin hQ hC => ?_)
  subst hl hg
  show GW k 3 M 0 [some (.int p0), some (.int p1), some (.int p2)] []
  refine G_iload_n (pc := 0) (i := 1) hC dJ10_rangeCheck_0 rfl rfl ?_
  refine G_iload_n (pc := 1) (i := 2) hC dJ10_rangeCheck_1 rfl rfl ?_
  refine G_icmp_le (pc := 2) (tgt := 46) hC dJ10_rangeCheck_2 (by decide) (fun hc => ?_) (fun hc => ?_)
  · replace hw := hw.1 hc
    refine G_iload_n (pc := 46) (i := 1) hC dJ10_rangeCheck_46 rfl rfl ?_
    refine G_if_ge (pc := 47) (tgt := 59) hC dJ10_rangeCheck_47 (by decide) (fun hc => ?_) (fun hc => ?_)
    · replace hw := hw.1 hc
      refine G_iload_n (pc := 59) (i := 2) hC dJ10_rangeCheck_59 rfl rfl ?_
      refine G_iload_n (pc := 60) (i := 0) hC dJ10_rangeCheck_60 rfl rfl ?_
      refine G_icmp_le (pc := 61) (tgt := 73) hC dJ10_rangeCheck_61 (by decide) (fun hc => ?_) (fun hc => ?_)
      · replace hw := hw.1 hc
        exact G_ret (pc := 73) hC hQ dJ10_rangeCheck_73 hw
      · replace hw := hw.2 hc
        exact hw.elim
    · replace hw := hw.2 hc
      exact hw.elim
  · replace hw := hw.2 hc
    exact hw.elim
theorem hdK_J10_rangeCheck : yJ10_rangeCheck.cls = "java/util/Arrays" ∧ yJ10_rangeCheck.cls ≠ "java/lang/invoke/MethodHandle" ∧ yJ10_rangeCheck.cls ≠ "java/lang/invoke/VarHandle" ∧ (parseMethodDescriptor yJ10_rangeCheck.desc).map (fun d => d.parameters.length) = some 3 := by decide +kernel
def w_J10_fill_10 (g : gT) (F : Nat) (p0 : Option Nat) (p1 : Int32) (p2 : Int32) (p3 : Int32) (Q : hM → Prop) : Nat → Int32 → hM → Prop
  | 0, _, _ => False
  | n + 1, v4, M => ((p2 ≤ v4 → Q M) ∧ (¬ (p2 ≤ v4) → sI M p0 4 v4 (vp_nar .byte p3) fun M1 => w_J10_fill_10 g F p0 p1 p2 p3 Q n (v4 + (1 : Int32)) M1))
def w_J10_fill (g : gT) (F : Nat) (p0 : Option Nat) (p1 : Int32) (p2 : Int32) (p3 : Int32) (M : hM) (Q : hM → Prop) : Prop :=
  aLenK g M p0 fun x1 => w_J10_rangeCheck g F x1 p1 p2 M (fun M2 => w_J10_fill_10 g F p0 p1 p2 p3 Q F p1 M2)
theorem g_J10_fill_10 {k : kT} {F : Nat} {p0 : Option Nat} {p1 : Int32} {p2 : Int32} {p3 : Int32} {Q : hM → Prop} (hJ : JK (kl k) (kg k)) (hC : CX k 5 cJ10_fill RJ10 none 2 34) (hQ : isQ k (PU Q)) (hin : (kt k).name = "fill") : ∀ (n : Nat) (v4 : Int32) (M : hM), w_J10_fill_10 (kg k) F p0 p1 p2 p3 Q n v4 M → GW k 5 M 10 [some (va_rf p0), some (.int p1), some (.int p2), some (.int p3), some (.int v4)] [] := by
  intro n
  induction n with
  | zero =>
    intro v4 M hw
    exact hw.elim
  | succ n ih =>
    intro v4 M hw
    refine G_iload (pc := 10) (i := 4) hC dJ10_fill_10 rfl ?_
    refine G_iload_n (pc := 12) (i := 2) hC dJ10_fill_12 rfl rfl ?_
    refine G_icmp_ge (pc := 13) (tgt := 27) hC dJ10_fill_13 (by decide) (fun hc => ?_) (fun hc => ?_)
    · replace hw := hw.1 hc
      exact G_ret (pc := 27) hC hQ dJ10_fill_27 hw
    · replace hw := hw.2 hc
      refine G_aload_n (pc := 16) (i := 0) hC dJ10_fill_16 rfl rfl ?_
      refine G_iload (pc := 17) (i := 4) hC dJ10_fill_17 rfl ?_
      refine G_iload_n (pc := 19) (i := 3) hC dJ10_fill_19 rfl rfl ?_
      refine G_bast (pc := 20) hC dJ10_fill_20 hw (fun M1 hw => ?_)
      refine G_iinc (pc := 21) (i := 4) (v := (v4 + (1 : Int32))) (lw := [some (va_rf p0), some (.int p1), some (.int p2), some (.int p3), some (.int (v4 + (1 : Int32)))]) hC dJ10_fill_21 rfl (Nat.le_of_ble_eq_true rfl) rfl rfl ?_
      refine G_goto (pc := 24) (tgt := 10) hC dJ10_fill_24 (by decide) ?_
      exact ih (v4 + (1 : Int32)) M1 hw
theorem m_J10_fill {l : Launch} {g : gT} {F : Nat} {p0 : Option Nat} {p1 : Int32} {p2 : Int32} {p3 : Int32} {M : hM} {Q : hM → Prop} (hJ : JK l g) (hw : w_J10_fill g F p0 p1 p2 p3 M Q) : MG l g yJ10_fill (ws_ yJ10_fill cJ10_fill 5 none) 2 34 [va_rf p0, .int p1, .int p2, .int p3] M (PU Q) := by
  refine MG_of hJ.2.1 (by decide) (cat_r (cat_i (cat_i (cat_i cat_e)))) (Nat.le_of_ble_eq_true rfl) (fun k hl hg hin hQ hC => ?_)
  subst hl hg
  show GW k 5 M 0 [some (va_rf p0), some (.int p1), some (.int p2), some (.int p3), none] []
  refine G_aload_n (pc := 0) (i := 0) hC dJ10_fill_0 rfl rfl ?_
  refine G_alenK (pc := 1) hJ hC dJ10_fill_1 hw (fun x1 hw => ?_)
  refine G_iload_n (pc := 2) (i := 1) hC dJ10_fill_2 rfl rfl ?_
  refine G_iload_n (pc := 3) (i := 2) hC dJ10_fill_3 rfl rfl ?_
  refine G_callS (pc := 4) (n := 3) (As := [.int x1, .int p1, .int p2]) (rest := []) hC (m_J10_rangeCheck hJ hw) (lw_S q2150 q2151 q96 q2152) hdK_J10_rangeCheck.2 (by decide) rfl rfl (st_c cat_e (Nat.le_of_ble_eq_true rfl)) dJ10_fill_4 (kU fun M2 hw => ?_)
  refine G_iload_n (pc := 7) (i := 1) hC dJ10_fill_7 rfl rfl ?_
  refine G_istore (pc := 8) (i := 4) (lw := [some (va_rf p0), some (.int p1), some (.int p2), some (.int p3), some (.int p1)]) hC dJ10_fill_8 (Nat.le_of_ble_eq_true rfl) rfl ?_
  exact g_J10_fill_10 hJ hC hQ hin _ p1 M2 hw
theorem hdK_J10_fill : yJ10_fill.cls = "java/util/Arrays" ∧ yJ10_fill.cls ≠ "java/lang/invoke/MethodHandle" ∧ yJ10_fill.cls ≠ "java/lang/invoke/VarHandle" ∧ (parseMethodDescriptor yJ10_fill.desc).map (fun d => d.parameters.length) = some 4 := by decide +kernel
def w_J7_fillNull (g : gT) (F : Nat) (p0 : Option Nat) (p1 : Int32) (p2 : Int32) (M : hM) (Q : hM → Prop) : Prop :=
  w_J10_fill g F p0 (p1 <<< ((1 : Int32) &&& 31)) (p2 <<< ((1 : Int32) &&& 31)) (0 : Int32) M (fun M1 => Q M1)
theorem m_J7_fillNull {l : Launch} {g : gT} {F : Nat} {p0 : Option Nat} {p1 : Int32} {p2 : Int32} {M : hM} {Q : hM → Prop} (hJ : JK l g) (hw : w_J7_fillNull g F p0 p1 p2 M Q) : MG l g yJ7_fillNull (ws_ yJ7_fillNull cJ7_fillNull 3 none) 3 58 [va_rf p0, .int p1, .int p2] M (PU Q) := by
  refine MG_of hJ.2.1 (by decide) (cat_r (cat_i (cat_i cat_e))) (Nat.le_of_ble_eq_true rfl) (fun k hl hg hin hQ hC => ?_)
  subst hl hg
  show GW k 3 M 0 [some (va_rf p0), some (.int p1), some (.int p2)] []
  refine G_aload_n (pc := 0) (i := 0) hC dJ7_fillNull_0 rfl rfl ?_
  refine G_iload_n (pc := 1) (i := 1) hC dJ7_fillNull_1 rfl rfl ?_
  refine G_iconst (pc := 2) (v := 1) hC dJ7_fillNull_2 (by decide) ?_
  refine G_ishl (pc := 3) hC dJ7_fillNull_3 ?_
  refine G_iload_n (pc := 4) (i := 2) hC dJ7_fillNull_4 rfl rfl ?_
  refine G_iconst (pc := 5) (v := 1) hC dJ7_fillNull_5 (by decide) ?_
  refine G_ishl (pc := 6) hC dJ7_fillNull_6 ?_
  refine G_iconst (pc := 7) (v := 0) hC dJ7_fillNull_7 (by decide) ?_
  refine G_callS (pc := 8) (n := 4) (As := [va_rf p0, .int (p1 <<< ((1 : Int32) &&& 31)), .int (p2 <<< ((1 : Int32) &&& 31)), .int (0 : Int32)]) (rest := []) hC (m_J10_fill hJ hw) (lw_S q2169 q2148 q96 q2149) hdK_J10_fill.2 (by decide) rfl rfl (st_c cat_e (Nat.le_of_ble_eq_true rfl)) dJ7_fillNull_8 (kU fun M1 hw => ?_)
  exact G_ret (pc := 11) hC hQ dJ7_fillNull_11 hw
def w_J17_fillNull (g : gT) (F : Nat) (p0 : Option Nat) (p1 : Int32) (p2 : Int32) (M : hM) (Q : hM → Prop) : Prop :=
  w_J10_fill g F p0 p1 p2 (0 : Int32) M (fun M1 => Q M1)
theorem m_J17_fillNull {l : Launch} {g : gT} {F : Nat} {p0 : Option Nat} {p1 : Int32} {p2 : Int32} {M : hM} {Q : hM → Prop} (hJ : JK l g) (hw : w_J17_fillNull g F p0 p1 p2 M Q) : MG l g yJ17_fillNull (ws_ yJ17_fillNull cJ17_fillNull 3 none) 3 58 [va_rf p0, .int p1, .int p2] M (PU Q) := by
  refine MG_of hJ.2.1 (by decide) (cat_r (cat_i (cat_i cat_e))) (Nat.le_of_ble_eq_true rfl) (fun k hl hg hin hQ hC => ?_)
  subst hl hg
  show GW k 3 M 0 [some (va_rf p0), some (.int p1), some (.int p2)] []
  refine G_aload_n (pc := 0) (i := 0) hC dJ17_fillNull_0 rfl rfl ?_
  refine G_iload_n (pc := 1) (i := 1) hC dJ17_fillNull_1 rfl rfl ?_
  refine G_iload_n (pc := 2) (i := 2) hC dJ17_fillNull_2 rfl rfl ?_
  refine G_iconst (pc := 3) (v := 0) hC dJ17_fillNull_3 (by decide) ?_
  refine G_callS (pc := 4) (n := 4) (As := [va_rf p0, .int p1, .int p2, .int (0 : Int32)]) (rest := []) hC (m_J10_fill hJ hw) (lw_S q2147 q2148 q96 q2149) hdK_J10_fill.2 (by decide) rfl rfl (st_c cat_e (Nat.le_of_ble_eq_true rfl)) dJ17_fillNull_4 (kU fun M1 hw => ?_)
  exact G_ret (pc := 7) hC hQ dJ17_fillNull_7 hw
theorem hdK_J17_fillNull : yJ17_fillNull.cls = "java/lang/StringLatin1" ∧ yJ17_fillNull.cls ≠ "java/lang/invoke/MethodHandle" ∧ yJ17_fillNull.cls ≠ "java/lang/invoke/VarHandle" ∧ (parseMethodDescriptor yJ17_fillNull.desc).map (fun d => d.parameters.length) = some 3 := by decide +kernel
theorem hdK_J7_fillNull : yJ7_fillNull.cls = "java/lang/StringUTF16" ∧ yJ7_fillNull.cls ≠ "java/lang/invoke/MethodHandle" ∧ yJ7_fillNull.cls ≠ "java/lang/invoke/VarHandle" ∧ (parseMethodDescriptor yJ7_fillNull.desc).map (fun d => d.parameters.length) = some 3 := by decide +kernel
def w_J4_setLength_s23_76 (g : gT) (F : Nat) (a0 : Nat) (p1 : Int32) (Q : hM → Prop) (M : hM) : Prop :=
  pV M (some a0) 23 3 (.int p1) fun M1 => Q M1
def w_J4_setLength_s23 (g : gT) (F : Nat) (a0 : Nat) (p1 : Int32) (M : hM) (Q : hM → Prop) : Prop :=
  ((0 ≤ p1 → (isC M a0 23 ∧ w_J4_ensureCapacityInternal_s23 g F a0 p1 M (fun M1 => gI M1 (some a0) 23 3 fun x2 => ((p1 ≤ x2 → gI M1 (some a0) 23 3 fun x3 => ((x3 ≤ p1 → w_J4_setLength_s23_76 g F a0 p1 Q M1) ∧ (¬ (x3 ≤ p1) → pV M1 (some a0) 23 2 (.int (1 : Int32)) fun M4 => w_J4_setLength_s23_76 g F a0 p1 Q M4))) ∧ (¬ (p1 ≤ x2) → (isC M1 a0 23 ∧ w_J4_isLatin1_s23 g F a0  M1 (fun x6 M5 => ((x6 = 0 → gF M5 (some a0) 23 0 fun x7 => gI M5 (some a0) 23 3 fun x8 => w_J7_fillNull g F x7 x8 p1 M5 (fun M9 => w_J4_setLength_s23_76 g F a0 p1 Q M9)) ∧ (¬ (x6 = 0) → gF M5 (some a0) 23 0 fun x10 => gI M5 (some a0) 23 3 fun x11 => w_J17_fillNull g F x10 x11 p1 M5 (fun M12 => w_J4_setLength_s23_76 g F a0 p1 Q M12)))))))))) ∧ (¬ (0 ≤ p1) → False))
theorem g_J4_setLength_s23_76 {k : kT} {F : Nat} {a0 : Nat} {p1 : Int32} {Q : hM → Prop} (hJ : JK (kl k) (kg k)) (hC : CX k 2 cJ4_setLength RJ4 none 5 104) (hQ : isQ k (PU Q)) (hin : (kt k).name = "setLength") : ∀  (M : hM), w_J4_setLength_s23_76 (kg k) F a0 p1 Q  M → GW k 2 M 76 [some (va_rf (some a0)), some (.int p1)] [] := by
  intro  M hw
  refine G_aload_n (pc := 76) (i := 0) hC dJ4_setLength_76 rfl rfl ?_
  refine G_iload_n (pc := 77) (i := 1) hC dJ4_setLength_77 rfl rfl ?_
  refine G_put (pc := 78) (ci := 23) (C := RJ5) (T := TJ5) (N := 4) (f := 3) tyJ5 hC rfl in_J5 tyJ5_ok nmJ5 (Nat.le_of_ble_eq_true rfl) q244 (fun _ h => h) rfl rfl rfl dJ4_setLength_78 hw (fun M1 hw => ?_)
  exact G_ret (pc := 81) hC hQ dJ4_setLength_81 hw
theorem m_J4_setLength_s23 {l : Launch} {g : gT} {F : Nat} {a0 : Nat} {p1 : Int32} {M : hM} {Q : hM → Prop} (hJ : JK l g) (hw : w_J4_setLength_s23 g F a0 p1 M Q) : MG l g yJ4_setLength (ws_ yJ4_setLength cJ4_setLength 2 none) 5 104 [va_rf (some a0), .int p1] M (PU Q) := by
  refine MG_of hJ.2.1 (by decide) (cat_r (cat_i cat_e)) (Nat.le_of_ble_eq_true rfl) (fun k hl hg hin hQ hC => ?_)
  subst hl hg
  show GW k 2 M 0 [some (va_rf (some a0)), some (.int p1)] []
  refine G_iload_n (pc := 0) (i := 1) hC dJ4_setLength_0 rfl rfl ?_
  refine G_if_ge (pc := 1) (tgt := 13) hC dJ4_setLength_1 (by decide) (fun hc => ?_) (fun hc => ?_)
  · replace hw := hw.1 hc
    refine G_aload_n (pc := 13) (i := 0) hC dJ4_setLength_13 rfl rfl ?_
    refine G_iload_n (pc := 14) (i := 1) hC dJ4_setLength_14 rfl rfl ?_
    obtain ⟨hb, hw⟩ := hw
    refine G_callUP (pc := 15) (n := 1) (z := ⟨"java/lang/AbstractStringBuilder", "isLatin1", "()Z"⟩) (C := "java/lang/StringBuilder") (b := a0) (As := [.int p1]) (rest := []) hC (m_J4_ensureCapacityInternal_s23 hJ hw) q444 hJ (by decide +kernel) q467 rfl q446 q90 q447 (rcv (C := RJ5) (T := TJ5) (N := 4) hC hb rfl) hdK_J4_ensureCapacityInternal_s23.2 (by decide) rfl rfl (st_c cat_e (Nat.le_of_ble_eq_true rfl)) dJ4_setLength_15 (kU fun M1 hw => ?_)
    refine G_aload_n (pc := 18) (i := 0) hC dJ4_setLength_18 rfl rfl ?_
    refine G_getI (pc := 19) (ci := 23) (C := RJ5) (T := TJ5) (N := 4) (f := 3) hC rfl in_J5 (Nat.le_of_ble_eq_true rfl) q244 (fun _ h => h) dJ4_setLength_19 hw (fun x2 hw => ?_)
    refine G_iload_n (pc := 22) (i := 1) hC dJ4_setLength_22 rfl rfl ?_
    refine G_icmp_ge (pc := 23) (tgt := 63) hC dJ4_setLength_23 (by decide) (fun hc => ?_) (fun hc => ?_)
    · replace hw := hw.1 hc
      refine G_aload_n (pc := 63) (i := 0) hC dJ4_setLength_63 rfl rfl ?_
      refine G_getI (pc := 64) (ci := 23) (C := RJ5) (T := TJ5) (N := 4) (f := 3) hC rfl in_J5 (Nat.le_of_ble_eq_true rfl) q244 (fun _ h => h) dJ4_setLength_64 hw (fun x3 hw => ?_)
      refine G_iload_n (pc := 67) (i := 1) hC dJ4_setLength_67 rfl rfl ?_
      refine G_icmp_le (pc := 68) (tgt := 76) hC dJ4_setLength_68 (by decide) (fun hc => ?_) (fun hc => ?_)
      · replace hw := hw.1 hc
        exact g_J4_setLength_s23_76 hJ hC hQ hin   M1 hw
      · replace hw := hw.2 hc
        refine G_aload_n (pc := 71) (i := 0) hC dJ4_setLength_71 rfl rfl ?_
        refine G_iconst (pc := 72) (v := 1) hC dJ4_setLength_72 (by decide) ?_
        refine G_put (pc := 73) (ci := 23) (C := RJ5) (T := TJ5) (N := 4) (f := 2) tyJ5 hC rfl in_J5 tyJ5_ok nmJ5 (Nat.le_of_ble_eq_true rfl) q242 (fun _ h => h) rfl rfl rfl dJ4_setLength_73 hw (fun M4 hw => ?_)
        exact g_J4_setLength_s23_76 hJ hC hQ hin   M4 hw
    · replace hw := hw.2 hc
      refine G_aload_n (pc := 26) (i := 0) hC dJ4_setLength_26 rfl rfl ?_
      obtain ⟨hb, hw⟩ := hw
      refine G_callU (pc := 27) (n := 0) (x := ⟨"java/lang/AbstractStringBuilder", "isLatin1", "()Z"⟩) (owner := "java/lang/AbstractStringBuilder") (C := "java/lang/StringBuilder") (b := a0) (As := []) (rest := []) hC (m_J4_isLatin1_s23 hJ hw) (lw_U q464 q466 q467 q465 q90 q468) rfl (rcv (C := RJ5) (T := TJ5) (N := 4) hC hb rfl) hdK_J4_isLatin1_s23.2 (by decide) rfl rfl (st_c cat_e (Nat.le_of_ble_eq_true rfl)) dJ4_setLength_27 (kI fun x6 M5 hw => ?_)
      refine G_if_eq (pc := 30) (tgt := 48) hC dJ4_setLength_30 (by decide) (fun hc => ?_) (fun hc => ?_)
      · replace hw := hw.1 hc
        refine G_aload_n (pc := 48) (i := 0) hC dJ4_setLength_48 rfl rfl ?_
        refine G_getF (pc := 49) (ci := 23) (C := RJ5) (T := TJ5) (N := 4) (f := 0) hC rfl in_J5 (Nat.le_of_ble_eq_true rfl) q240 (fun _ h => h) dJ4_setLength_49 hw (fun x7 hw => ?_)
        refine G_aload_n (pc := 52) (i := 0) hC dJ4_setLength_52 rfl rfl ?_
        refine G_getI (pc := 53) (ci := 23) (C := RJ5) (T := TJ5) (N := 4) (f := 3) hC rfl in_J5 (Nat.le_of_ble_eq_true rfl) q244 (fun _ h => h) dJ4_setLength_53 hw (fun x8 hw => ?_)
        refine G_iload_n (pc := 56) (i := 1) hC dJ4_setLength_56 rfl rfl ?_
        refine G_callS (pc := 57) (n := 3) (As := [va_rf x7, .int x8, .int p1]) (rest := []) hC (m_J7_fillNull hJ hw) (lw_S q2166 q2167 q93 q2168) hdK_J7_fillNull.2 (by decide) rfl rfl (st_c cat_e (Nat.le_of_ble_eq_true rfl)) dJ4_setLength_57 (kU fun M9 hw => ?_)
        refine G_goto (pc := 60) (tgt := 76) hC dJ4_setLength_60 (by decide) ?_
        exact g_J4_setLength_s23_76 hJ hC hQ hin   M9 hw
      · replace hw := hw.2 hc
        refine G_aload_n (pc := 33) (i := 0) hC dJ4_setLength_33 rfl rfl ?_
        refine G_getF (pc := 34) (ci := 23) (C := RJ5) (T := TJ5) (N := 4) (f := 0) hC rfl in_J5 (Nat.le_of_ble_eq_true rfl) q240 (fun _ h => h) dJ4_setLength_34 hw (fun x10 hw => ?_)
        refine G_aload_n (pc := 37) (i := 0) hC dJ4_setLength_37 rfl rfl ?_
        refine G_getI (pc := 38) (ci := 23) (C := RJ5) (T := TJ5) (N := 4) (f := 3) hC rfl in_J5 (Nat.le_of_ble_eq_true rfl) q244 (fun _ h => h) dJ4_setLength_38 hw (fun x11 hw => ?_)
        refine G_iload_n (pc := 41) (i := 1) hC dJ4_setLength_41 rfl rfl ?_
        refine G_callS (pc := 42) (n := 3) (As := [va_rf x10, .int x11, .int p1]) (rest := []) hC (m_J17_fillNull hJ hw) (lw_S q2144 q2145 q104 q2146) hdK_J17_fillNull.2 (by decide) rfl rfl (st_c cat_e (Nat.le_of_ble_eq_true rfl)) dJ4_setLength_42 (kU fun M12 hw => ?_)
        refine G_goto (pc := 45) (tgt := 76) hC dJ4_setLength_45 (by decide) ?_
        exact g_J4_setLength_s23_76 hJ hC hQ hin   M12 hw
  · replace hw := hw.2 hc
    exact hw.elim
def w_J5_setLength (g : gT) (F : Nat) (a0 : Nat) (p1 : Int32) (M : hM) (Q : hM → Prop) : Prop :=
  (isC M a0 23 ∧ w_J4_setLength_s23 g F a0 p1 M (fun M1 => Q M1))
theorem m_J5_setLength {l : Launch} {g : gT} {F : Nat} {a0 : Nat} {p1 : Int32} {M : hM} {Q : hM → Prop} (hJ : JK l g) (hw : w_J5_setLength g F a0 p1 M Q) : MG l g yJ5_setLength (ws_ yJ5_setLength cJ5_setLength 2 none) 6 125 [va_rf (some a0), .int p1] M (PU Q) := by
  refine MG_of hJ.2.1 (by decide) (cat_r (cat_i cat_e)) (Nat.le_of_ble_eq_true rfl) (fun k hl hg hin hQ hC => ?_)
  subst hl hg
  show GW k 2 M 0 [some (va_rf (some a0)), some (.int p1)] []
  refine G_aload_n (pc := 0) (i := 0) hC dJ5_setLength_0 rfl rfl ?_
  refine G_iload_n (pc := 1) (i := 1) hC dJ5_setLength_1 rfl rfl ?_
  obtain ⟨hb, hw⟩ := hw
  refine G_callSU (pc := 2) (n := 1) (ci := 23) (C := RJ5) (T := TJ5) (N := 4) (b := a0) (As := [.int p1]) (rest := []) hC rfl (m_J4_setLength_s23 hJ hw) (lw_SU q2122 q3874 q253 q2123 q90 q2124) (rcv (C := RJ5) (T := TJ5) (N := 4) hC hb rfl) (by decide +kernel) (by decide) rfl rfl (st_c cat_e (Nat.le_of_ble_eq_true rfl)) dJ5_setLength_2 (kU fun M1 hw => ?_)
  exact G_ret (pc := 5) hC hQ dJ5_setLength_5 hw
