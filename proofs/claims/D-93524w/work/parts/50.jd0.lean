/-! STAGE 1, printed by wip/D-93524w/genj.py: the library's members, part 0 -/
set_option maxRecDepth 100000
def w_J0_init_s21 (g : gT) (F : Nat) (a0 : Nat) (M : hM) (Q : hM → Prop) : Prop :=
  Q M
theorem m_J0_init_s21 {l : Launch} {g : gT} {F : Nat} {a0 : Nat} {M : hM} {Q : hM → Prop} (hJ : JK l g) (hw : w_J0_init_s21 g F a0 M Q) : MG l g yJ0_init (ws_ yJ0_init cJ0_init 1 none) 1 20 [va_rf (some a0)] M (PU Q) := by
  refine MG_of hJ.2.1 (by decide) (cat_r cat_e) (Nat.le_of_ble_eq_true rfl) (fun k hl hg hin hQ hC => ?_)
  subst hl hg
  show GW k 1 M 0 [some (va_rf (some a0))] []
  refine G_aload_n (pc := 0) (i := 0) hC dJ0_init_0 rfl rfl ?_
  refine G_objInit (pc := 1) hC q171 q158 q159 rfl rfl (st_c cat_e (Nat.le_of_ble_eq_true rfl)) dJ0_init_1 ?_
  exact G_ret (pc := 4) hC hQ dJ0_init_4 hw
theorem hdK_J0_init_s21 : yJ0_init.cls = "java/util/AbstractCollection" ∧ yJ0_init.cls ≠ "java/lang/invoke/MethodHandle" ∧ yJ0_init.cls ≠ "java/lang/invoke/VarHandle" ∧ (parseMethodDescriptor yJ0_init.desc).map (fun d => d.parameters.length) = some 0 := by decide +kernel
def w_J1_init_s21 (g : gT) (F : Nat) (a0 : Nat) (M : hM) (Q : hM → Prop) : Prop :=
  (isC M a0 21 ∧ w_J0_init_s21 g F a0  M (fun M1 => pV M1 (some a0) 21 0 (.int (0 : Int32)) fun M2 => Q M2))
theorem m_J1_init_s21 {l : Launch} {g : gT} {F : Nat} {a0 : Nat} {M : hM} {Q : hM → Prop} (hJ : JK l g) (hw : w_J1_init_s21 g F a0 M Q) : MG l g yJ1_init (ws_ yJ1_init cJ1_init 1 none) 2 40 [va_rf (some a0)] M (PU Q) := by
  refine MG_of hJ.2.1 (by decide) (cat_r cat_e) (Nat.le_of_ble_eq_true rfl) (fun k hl hg hin hQ hC => ?_)
  subst hl hg
  show GW k 1 M 0 [some (va_rf (some a0))] []
  refine G_aload_n (pc := 0) (i := 0) hC dJ1_init_0 rfl rfl ?_
  obtain ⟨hb, hw⟩ := hw
  refine G_callI (pc := 1) (n := 0) (b := a0) (As := []) (rest := []) hC (m_J0_init_s21 hJ hw) (lw_meth q170) q85 q168 q169 rfl hdK_J0_init_s21.2 (by decide) rfl rfl (st_c cat_e (Nat.le_of_ble_eq_true rfl)) dJ1_init_1 (kU fun M1 hw => ?_)
  refine G_aload_n (pc := 4) (i := 0) hC dJ1_init_4 rfl rfl ?_
  refine G_iconst (pc := 5) (v := 0) hC dJ1_init_5 (by decide) ?_
  refine G_put (pc := 6) (ci := 21) (C := RJ2) (T := TJ2) (N := 3) (f := 0) tyJ2 hC rfl in_J2 tyJ2_ok nmJ2 (Nat.le_of_ble_eq_true rfl) q178 (fun _ h => h) rfl rfl rfl dJ1_init_6 hw (fun M2 hw => ?_)
  exact G_ret (pc := 9) hC hQ dJ1_init_9 hw
theorem hdK_J1_init_s21 : yJ1_init.cls = "java/util/AbstractList" ∧ yJ1_init.cls ≠ "java/lang/invoke/MethodHandle" ∧ yJ1_init.cls ≠ "java/lang/invoke/VarHandle" ∧ (parseMethodDescriptor yJ1_init.desc).map (fun d => d.parameters.length) = some 0 := by decide +kernel
def w_J2_init (g : gT) (F : Nat) (a0 : Nat) (M : hM) (Q : hM → Prop) : Prop :=
  (isC M a0 21 ∧ w_J1_init_s21 g F a0  M (fun M1 => pV M1 (some a0) 21 1 (va_rf (some (gK g 256))) fun M2 => Q M2))
theorem m_J2_init {l : Launch} {g : gT} {F : Nat} {a0 : Nat} {M : hM} {Q : hM → Prop} (hJ : JK l g) (hw : w_J2_init g F a0 M Q) : MG l g yJ2_init (ws_ yJ2_init cJ2_init 1 none) 3 60 [va_rf (some a0)] M (PU Q) := by
  refine MG_of hJ.2.1 (by decide) (cat_r cat_e) (Nat.le_of_ble_eq_true rfl) (fun k hl hg hin hQ hC => ?_)
  subst hl hg
  show GW k 1 M 0 [some (va_rf (some a0))] []
  refine G_aload_n (pc := 0) (i := 0) hC dJ2_init_0 rfl rfl ?_
  obtain ⟨hb, hw⟩ := hw
  refine G_callI (pc := 1) (n := 0) (b := a0) (As := []) (rest := []) hC (m_J1_init_s21 hJ hw) (lw_meth q167) q86 q165 q166 rfl hdK_J1_init_s21.2 (by decide) rfl rfl (st_c cat_e (Nat.le_of_ble_eq_true rfl)) dJ2_init_1 (kU fun M1 hw => ?_)
  refine G_aload_n (pc := 4) (i := 0) hC dJ2_init_4 rfl rfl ?_
  refine G_gets (pc := 5) (v := va_rf (some (gK (kg k) 256))) hC (hC.sK hJ).1 q172 (fun _ h => h) dJ2_init_5 ?_
  refine G_put (pc := 8) (ci := 21) (C := RJ2) (T := TJ2) (N := 3) (f := 1) tyJ2 hC rfl in_J2 tyJ2_ok nmJ2 (Nat.le_of_ble_eq_true rfl) q174 (fun _ h => h) rfl (nR_a _ _) (fR_a _ _) dJ2_init_8 hw (fun M2 hw => ?_)
  exact G_ret (pc := 11) hC hQ dJ2_init_11 hw
def w_J10_copyOf_2 (g : gT) (F : Nat) (p0 : Option Nat) (p1 : Int32) (p2 : Option Nat) (M : hM) (Q : Option Nat → hM → Prop) : Prop :=
  ((¬ p2 = (some (gK g 260)) → False) ∧ (p2 = (some (gK g 260)) → nA M 6 p1 (.inr (.inr (.inr (.inr (fun _ => none))))) fun q1 M2 => aLenK g M2 p0 fun x3 => cQ g M2 p0 (0 : Int32) (some q1) (0 : Int32) (if p1 < x3 then p1 else x3) fun M4 => Q (some q1) M4))
theorem m_J10_copyOf_2 {l : Launch} {g : gT} {F : Nat} {p0 : Option Nat} {p1 : Int32} {p2 : Option Nat} {M : hM} {Q : Option Nat → hM → Prop} (hJ : JK l g) (hw : w_J10_copyOf_2 g F p0 p1 p2 M Q) : MG l g yJ10_copyOf_2 (ws_ yJ10_copyOf_2 cJ10_copyOf_2 4 (some (.array (.object "java/lang/Object")))) 1 40 [va_rf p0, .int p1, va_rf p2] M (PR Q) := by
  refine MG_of hJ.2.1 (by decide) (cat_r (cat_i (cat_r cat_e))) (Nat.le_of_ble_eq_true rfl) (fun k hl hg hin hQ hC => ?_)
  subst hl hg
  show GW k 4 M 0 [some (va_rf p0), some (.int p1), some (va_rf p2), none] []
  refine G_aload_n (pc := 0) (i := 2) hC dJ10_copyOf_2_0 rfl rfl ?_
  refine G_ldcM (pc := 1) hC q343 (hC.sK hJ).2.2.2.2.2.2.2.2.2.2.2.2.1 dJ10_copyOf_2_1 ?_
  refine G_acmp_ne (pc := 3) (tgt := 13) hC dJ10_copyOf_2_3 (by decide) (fun hc => ?_) (fun hc => ?_)
  · replace hw := hw.1 hc
    refine G_aload_n (pc := 13) (i := 2) hC dJ10_copyOf_2_13 rfl rfl ?_
    exact hw.elim
  · replace hw := hw.2 hc
    refine G_iload_n (pc := 6) (i := 1) hC dJ10_copyOf_2_6 rfl rfl ?_
    refine G_anewO (pc := 7) hC q344 dJ10_copyOf_2_7 hw (fun q1 M2 hw => ?_)
    refine G_goto (pc := 10) (tgt := 24) hC dJ10_copyOf_2_10 (by decide) ?_
    refine G_astore_n (pc := 24) (i := 3) (lw := [some (va_rf p0), some (.int p1), some (va_rf p2), some (va_rf (some q1))]) hC dJ10_copyOf_2_24 rfl (Nat.le_of_ble_eq_true rfl) rfl ?_
    refine G_aload_n (pc := 25) (i := 0) hC dJ10_copyOf_2_25 rfl rfl ?_
    refine G_iconst (pc := 26) (v := 0) hC dJ10_copyOf_2_26 (by decide) ?_
    refine G_aload_n (pc := 27) (i := 3) hC dJ10_copyOf_2_27 rfl rfl ?_
    refine G_iconst (pc := 28) (v := 0) hC dJ10_copyOf_2_28 (by decide) ?_
    refine G_aload_n (pc := 29) (i := 0) hC dJ10_copyOf_2_29 rfl rfl ?_
    refine G_alenK (pc := 30) hJ hC dJ10_copyOf_2_30 hw (fun x3 hw => ?_)
    refine G_iload_n (pc := 31) (i := 1) hC dJ10_copyOf_2_31 rfl rfl ?_
    refine G_min (pc := 32) hC q345 q346 q95 q347 rfl rfl (st_c (cat_i (cat_r (cat_i (cat_r cat_e)))) (Nat.le_of_ble_eq_true rfl)) dJ10_copyOf_2_32 ?_
    refine G_copyQ (pc := 35) hJ hC q348 q350 q349 q97 (st_c cat_e (Nat.le_of_ble_eq_true rfl)) rfl rfl dJ10_copyOf_2_35 hw (fun M4 hw => ?_)
    refine G_aload_n (pc := 38) (i := 3) hC dJ10_copyOf_2_38 rfl rfl ?_
    exact G_aret (pc := 39) hC (Or.inr ⟨_, rfl⟩) hQ dJ10_copyOf_2_39 hw
theorem hdK_J10_copyOf_2 : yJ10_copyOf_2.cls = "java/util/Arrays" ∧ yJ10_copyOf_2.cls ≠ "java/lang/invoke/MethodHandle" ∧ yJ10_copyOf_2.cls ≠ "java/lang/invoke/VarHandle" ∧ (parseMethodDescriptor yJ10_copyOf_2.desc).map (fun d => d.parameters.length) = some 3 := by decide +kernel
def w_J10_copyOf (g : gT) (F : Nat) (p0 : Option Nat) (p1 : Int32) (M : hM) (Q : Option Nat → hM → Prop) : Prop :=
  (isAO g M p0 ∧ w_J10_copyOf_2 g F p0 p1 (some (gK g 260)) M (fun x2 M1 => Q x2 M1))
theorem m_J10_copyOf {l : Launch} {g : gT} {F : Nat} {p0 : Option Nat} {p1 : Int32} {M : hM} {Q : Option Nat → hM → Prop} (hJ : JK l g) (hw : w_J10_copyOf g F p0 p1 M Q) : MG l g yJ10_copyOf (ws_ yJ10_copyOf cJ10_copyOf 2 (some (.array (.object "java/lang/Object")))) 2 63 [va_rf p0, .int p1] M (PR Q) := by
  refine MG_of hJ.2.1 (by decide) (cat_r (cat_i cat_e)) (Nat.le_of_ble_eq_true rfl) (fun k hl hg hin hQ hC => ?_)
  subst hl hg
  show GW k 2 M 0 [some (va_rf p0), some (.int p1)] []
  refine G_aload_n (pc := 0) (i := 0) hC dJ10_copyOf_0 rfl rfl ?_
  refine G_iload_n (pc := 1) (i := 1) hC dJ10_copyOf_1 rfl rfl ?_
  refine G_aload_n (pc := 2) (i := 0) hC dJ10_copyOf_2 rfl rfl ?_
  obtain ⟨hb, hw⟩ := hw
  refine G_getClA (pc := 3) hJ hC q290 (nw_in q1174 rfl) q3952 q291 q339 (st_c (cat_i (cat_r cat_e)) (Nat.le_of_ble_eq_true rfl)) rfl rfl dJ10_copyOf_3 hb ?_
  refine G_callS (pc := 6) (n := 3) (As := [va_rf p0, .int p1, va_rf (some (gK (kg k) 260))]) (rest := []) hC (m_J10_copyOf_2 hJ hw) (lw_S q340 q341 q96 q342) hdK_J10_copyOf_2.2 (by decide) rfl rfl (st_c cat_e (Nat.le_of_ble_eq_true rfl)) dJ10_copyOf_6 (kRf fun x2 M1 hw => ?_)
  exact G_aret (pc := 9) hC (Or.inr ⟨_, rfl⟩) hQ dJ10_copyOf_9 hw
theorem hdK_J10_copyOf : yJ10_copyOf.cls = "java/util/Arrays" ∧ yJ10_copyOf.cls ≠ "java/lang/invoke/MethodHandle" ∧ yJ10_copyOf.cls ≠ "java/lang/invoke/VarHandle" ∧ (parseMethodDescriptor yJ10_copyOf.desc).map (fun d => d.parameters.length) = some 2 := by decide +kernel
def w_J2_toArray (g : gT) (F : Nat) (a0 : Nat) (M : hM) (Q : Option Nat → hM → Prop) : Prop :=
  gF M (some a0) 21 1 fun x1 => gI M (some a0) 21 2 fun x2 => w_J10_copyOf g F x1 x2 M (fun x4 M3 => Q x4 M3)
theorem m_J2_toArray {l : Launch} {g : gT} {F : Nat} {a0 : Nat} {M : hM} {Q : Option Nat → hM → Prop} (hJ : JK l g) (hw : w_J2_toArray g F a0 M Q) : MG l g yJ2_toArray (ws_ yJ2_toArray cJ2_toArray 1 (some (.array (.object "java/lang/Object")))) 3 84 [va_rf (some a0)] M (PR Q) := by
  refine MG_of hJ.2.1 (by decide) (cat_r cat_e) (Nat.le_of_ble_eq_true rfl) (fun k hl hg hin hQ hC => ?_)
  subst hl hg
  show GW k 1 M 0 [some (va_rf (some a0))] []
  refine G_aload_n (pc := 0) (i := 0) hC dJ2_toArray_0 rfl rfl ?_
  refine G_getF (pc := 1) (ci := 21) (C := RJ2) (T := TJ2) (N := 3) (f := 1) hC rfl in_J2 (Nat.le_of_ble_eq_true rfl) q174 (fun _ h => h) dJ2_toArray_1 hw (fun x1 hw => ?_)
  refine G_aload_n (pc := 4) (i := 0) hC dJ2_toArray_4 rfl rfl ?_
  refine G_getI (pc := 5) (ci := 21) (C := RJ2) (T := TJ2) (N := 3) (f := 2) hC rfl in_J2 (Nat.le_of_ble_eq_true rfl) q177 (fun _ h => h) dJ2_toArray_5 hw (fun x2 hw => ?_)
  refine G_callS (pc := 8) (n := 2) (As := [va_rf x1, .int x2]) (rest := []) hC (m_J10_copyOf hJ hw) (lw_S q287 q288 q96 q289) hdK_J10_copyOf.2 (by decide) rfl rfl (st_c cat_e (Nat.le_of_ble_eq_true rfl)) dJ2_toArray_8 (kRf fun x4 M3 hw => ?_)
  exact G_aret (pc := 11) hC (Or.inr ⟨_, rfl⟩) hQ dJ2_toArray_11 hw
def w_J2_init_2_64 (g : gT) (F : Nat) (a0 : Nat) (p1 : Option Nat) (Q : hM → Prop) (M : hM) : Prop :=
  Q M
def w_J2_init_2 (g : gT) (F : Nat) (a0 : Nat) (p1 : Option Nat) (M : hM) (Q : hM → Prop) : Prop :=
  (isC M a0 21 ∧ w_J1_init_s21 g F a0  M (fun M1 => gThis M1 p1 21 fun b3 => w_J2_toArray g F b3  M1 (fun x4 M2 => aLenK g M2 x4 fun x5 => pV M2 (some a0) 21 2 (.int x5) fun M6 => ((x5 = 0 → pV M6 (some a0) 21 1 (va_rf (some (gK g 257))) fun M7 => w_J2_init_2_64 g F a0 p1 Q M7) ∧ (¬ (x5 = 0) → (isC M6 b3 21 ∧ ((¬ (some (gK g 261)) = (some (gK g 261)) → gI M6 (some a0) 21 2 fun x8 => w_J10_copyOf_2 g F x4 x8 (some (gK g 260)) M6 (fun x10 M9 => pV M9 (some a0) 21 1 (va_rf x10) fun M11 => w_J2_init_2_64 g F a0 p1 Q M11)) ∧ ((some (gK g 261)) = (some (gK g 261)) → pV M6 (some a0) 21 1 (va_rf x4) fun M12 => w_J2_init_2_64 g F a0 p1 Q M12))))))))
theorem g_J2_init_2_64 {k : kT} {F : Nat} {a0 : Nat} {p1 : Option Nat} {Q : hM → Prop} (hJ : JK (kl k) (kg k)) (hC : CX k 3 cJ2_init_2 RJ2 none 4 104) (hQ : isQ k (PU Q)) (hin : (kt k).name = "<init>") : ∀  (M : hM), w_J2_init_2_64 (kg k) F a0 p1 Q  M → GW k 3 M 64 [some (va_rf (some a0)), some (va_rf p1), none] [] := by
  intro  M hw
  exact G_ret (pc := 64) hC hQ dJ2_init_2_64 hw
theorem m_J2_init_2 {l : Launch} {g : gT} {F : Nat} {a0 : Nat} {p1 : Option Nat} {M : hM} {Q : hM → Prop} (hJ : JK l g) (hw : w_J2_init_2 g F a0 p1 M Q) : MG l g yJ2_init_2 (ws_ yJ2_init_2 cJ2_init_2 3 none) 4 104 [va_rf (some a0), va_rf p1] M (PU Q) := by
  refine MG_of hJ.2.1 (by decide) (cat_r (cat_r cat_e)) (Nat.le_of_ble_eq_true rfl) (fun k hl hg hin hQ hC => ?_)
  subst hl hg
  show GW k 3 M 0 [some (va_rf (some a0)), some (va_rf p1), none] []
  refine G_aload_n (pc := 0) (i := 0) hC dJ2_init_2_0 rfl rfl ?_
  obtain ⟨hb, hw⟩ := hw
  refine G_callI (pc := 1) (n := 0) (b := a0) (As := []) (rest := []) hC (m_J1_init_s21 hJ hw) (lw_meth q167) q86 q165 q166 rfl hdK_J1_init_s21.2 (by decide) rfl rfl (st_c cat_e (Nat.le_of_ble_eq_true rfl)) dJ2_init_2_1 (kU fun M1 hw => ?_)
  refine G_aload_n (pc := 4) (i := 1) hC dJ2_init_2_4 rfl rfl ?_
  obtain ⟨b3, rfl, hb, hw⟩ := gThis_e hw
  refine G_callF (pc := 5) (n := 0) (x := ⟨"java/util/Collection", "toArray", "()[Ljava/lang/Object;"⟩) (C := "java/util/ArrayList") (ci := 21) (T := TJ2) (N := 3) (b := b3) (As := []) (rest := []) hC (m_J2_toArray hJ hw) (lw_F q737 q756 q758 q87 q760) (nw_in q739 rfl) (nw_in q738 rfl) (nw_in q759 rfl) (nw_in q757 rfl) (nw_in q755 rfl) rfl (rcv (C := RJ2) (T := TJ2) (N := 3) hC hb rfl) (by decide +kernel) (by decide) rfl rfl (st_c cat_e (Nat.le_of_ble_eq_true rfl)) dJ2_init_2_5 (kRf fun x4 M2 hw => ?_)
  refine G_astore_n (pc := 10) (i := 2) (lw := [some (va_rf (some a0)), some (va_rf (some b3)), some (va_rf x4)]) hC dJ2_init_2_10 rfl (Nat.le_of_ble_eq_true rfl) rfl ?_
  refine G_aload_n (pc := 11) (i := 0) hC dJ2_init_2_11 rfl rfl ?_
  refine G_aload_n (pc := 12) (i := 2) hC dJ2_init_2_12 rfl rfl ?_
  refine G_alenK (pc := 13) hJ hC dJ2_init_2_13 hw (fun x5 hw => ?_)
  refine G_dup_x1 (pc := 14) hC dJ2_init_2_14 rfl (rf_cat _) ?_
  refine G_put (pc := 15) (ci := 21) (C := RJ2) (T := TJ2) (N := 3) (f := 2) tyJ2 hC rfl in_J2 tyJ2_ok nmJ2 (Nat.le_of_ble_eq_true rfl) q177 (fun _ h => h) rfl rfl rfl dJ2_init_2_15 hw (fun M6 hw => ?_)
  refine G_if_eq (pc := 18) (tgt := 57) hC dJ2_init_2_18 (by decide) (fun hc => ?_) (fun hc => ?_)
  · replace hw := hw.1 hc
    refine G_aload_n (pc := 57) (i := 0) hC dJ2_init_2_57 rfl rfl ?_
    refine G_gets (pc := 58) (v := va_rf (some (gK (kg k) 257))) hC (hC.sK hJ).2.1 q1183 (fun _ h => h) dJ2_init_2_58 ?_
    refine G_put (pc := 61) (ci := 21) (C := RJ2) (T := TJ2) (N := 3) (f := 1) tyJ2 hC rfl in_J2 tyJ2_ok nmJ2 (Nat.le_of_ble_eq_true rfl) q174 (fun _ h => h) rfl (nR_a _ _) (fR_a _ _) dJ2_init_2_61 hw (fun M7 hw => ?_)
    refine G_loc (lv' := [some (va_rf (some a0)), some (va_rf (some b3)), none]) ⟨Or.inr rfl, Or.inr rfl, Or.inl rfl, trivial⟩ ?_
    exact g_J2_init_2_64 hJ hC hQ hin   M7 hw
  · replace hw := hw.2 hc
    refine G_aload_n (pc := 21) (i := 1) hC dJ2_init_2_21 rfl rfl ?_
    obtain ⟨hb, hw⟩ := hw
    refine G_getClI (pc := 22) (x := ⟨"java/util/Collection", "getClass", "()Ljava/lang/Class;"⟩) hJ hC q1172 (nw_in q1174 rfl) (nw_in q1173 rfl) q327 q291 (nw_in q1176 rfl) (nw_in q1177 rfl) (nw_in q755 rfl) q339 (by decide) (by decide) rfl rfl (st_c cat_e (Nat.le_of_ble_eq_true rfl)) rfl rfl dJ2_init_2_22 (rcv (C := RJ2) (T := TJ2) (N := 3) hC hb rfl) ?_
    refine G_ldcM (pc := 27) hC q1180 (hC.sK hJ).2.2.2.2.2.2.2.2.2.2.2.2.2.1 dJ2_init_2_27 ?_
    refine G_acmp_ne (pc := 29) (tgt := 40) hC dJ2_init_2_29 (by decide) (fun hc => ?_) (fun hc => ?_)
    · replace hw := hw.1 hc
      refine G_aload_n (pc := 40) (i := 0) hC dJ2_init_2_40 rfl rfl ?_
      refine G_aload_n (pc := 41) (i := 2) hC dJ2_init_2_41 rfl rfl ?_
      refine G_aload_n (pc := 42) (i := 0) hC dJ2_init_2_42 rfl rfl ?_
      refine G_getI (pc := 43) (ci := 21) (C := RJ2) (T := TJ2) (N := 3) (f := 2) hC rfl in_J2 (Nat.le_of_ble_eq_true rfl) q177 (fun _ h => h) dJ2_init_2_43 hw (fun x8 hw => ?_)
      refine G_ldcM (pc := 46) hC q1181 (hC.sK hJ).2.2.2.2.2.2.2.2.2.2.2.2.1 dJ2_init_2_46 ?_
      refine G_callS (pc := 48) (n := 3) (As := [va_rf x4, .int x8, va_rf (some (gK (kg k) 260))]) (rest := [va_rf (some a0)]) hC (m_J10_copyOf_2 hJ hw) (lw_S q1182 q341 q96 q342) hdK_J10_copyOf_2.2 (by decide) rfl rfl (st_c (cat_r cat_e) (Nat.le_of_ble_eq_true rfl)) dJ2_init_2_48 (kRf fun x10 M9 hw => ?_)
      refine G_put (pc := 51) (ci := 21) (C := RJ2) (T := TJ2) (N := 3) (f := 1) tyJ2 hC rfl in_J2 tyJ2_ok nmJ2 (Nat.le_of_ble_eq_true rfl) q174 (fun _ h => h) rfl (nR_a _ _) (fR_a _ _) dJ2_init_2_51 hw (fun M11 hw => ?_)
      refine G_goto (pc := 54) (tgt := 64) hC dJ2_init_2_54 (by decide) ?_
      refine G_loc (lv' := [some (va_rf (some a0)), some (va_rf (some b3)), none]) ⟨Or.inr rfl, Or.inr rfl, Or.inl rfl, trivial⟩ ?_
      exact g_J2_init_2_64 hJ hC hQ hin   M11 hw
    · replace hw := hw.2 hc
      refine G_aload_n (pc := 32) (i := 0) hC dJ2_init_2_32 rfl rfl ?_
      refine G_aload_n (pc := 33) (i := 2) hC dJ2_init_2_33 rfl rfl ?_
      refine G_put (pc := 34) (ci := 21) (C := RJ2) (T := TJ2) (N := 3) (f := 1) tyJ2 hC rfl in_J2 tyJ2_ok nmJ2 (Nat.le_of_ble_eq_true rfl) q174 (fun _ h => h) rfl (nR_a _ _) (fR_a _ _) dJ2_init_2_34 hw (fun M12 hw => ?_)
      refine G_goto (pc := 37) (tgt := 64) hC dJ2_init_2_37 (by decide) ?_
      refine G_loc (lv' := [some (va_rf (some a0)), some (va_rf (some b3)), none]) ⟨Or.inr rfl, Or.inr rfl, Or.inl rfl, trivial⟩ ?_
      exact g_J2_init_2_64 hJ hC hQ hin   M12 hw
def w_J2_size (g : gT) (F : Nat) (a0 : Nat) (M : hM) (Q : Int32 → hM → Prop) : Prop :=
  gI M (some a0) 21 2 fun x1 => Q x1 M
theorem m_J2_size {l : Launch} {g : gT} {F : Nat} {a0 : Nat} {M : hM} {Q : Int32 → hM → Prop} (hJ : JK l g) (hw : w_J2_size g F a0 M Q) : MG l g yJ2_size (ws_ yJ2_size cJ2_size 1 (some .int)) 1 12 [va_rf (some a0)] M (PI Q) := by
  refine MG_of hJ.2.1 (by decide) (cat_r cat_e) (Nat.le_of_ble_eq_true rfl) (fun k hl hg hin hQ hC => ?_)
  subst hl hg
  show GW k 1 M 0 [some (va_rf (some a0))] []
  refine G_aload_n (pc := 0) (i := 0) hC dJ2_size_0 rfl rfl ?_
  refine G_getI (pc := 1) (ci := 21) (C := RJ2) (T := TJ2) (N := 3) (f := 2) hC rfl in_J2 (Nat.le_of_ble_eq_true rfl) q177 (fun _ h => h) dJ2_size_1 hw (fun x1 hw => ?_)
  exact G_iret (pc := 4) hC rfl hQ dJ2_size_4 hw
def w_J16_checkIndex_9 (g : gT) (F : Nat) (p0 : Int32) (p1 : Int32) (p2 : Option Nat) (Q : Int32 → hM → Prop) (M : hM) : Prop :=
  False
def w_J16_checkIndex (g : gT) (F : Nat) (p0 : Int32) (p1 : Int32) (p2 : Option Nat) (M : hM) (Q : Int32 → hM → Prop) : Prop :=
  ((p0 < 0 → w_J16_checkIndex_9 g F p0 p1 p2 Q M) ∧ (¬ (p0 < 0) → ((p0 < p1 → Q p0 M) ∧ (¬ (p0 < p1) → w_J16_checkIndex_9 g F p0 p1 p2 Q M))))
theorem g_J16_checkIndex_9 {k : kT} {F : Nat} {p0 : Int32} {p1 : Int32} {p2 : Option Nat} {Q : Int32 → hM → Prop} (hJ : JK (kl k) (kg k)) (hC : CX k 3 cJ16_checkIndex RJ16 (some .int) 1 12) (hQ : isQ k (PI Q)) (hin : (kt k).name = "checkIndex") : ∀  (M : hM), w_J16_checkIndex_9 (kg k) F p0 p1 p2 Q  M → GW k 3 M 9 [some (.int p0), some (.int p1), some (va_rf p2)] [] := by
  intro  M hw
  refine G_aload_n (pc := 9) (i := 2) hC dJ16_checkIndex_9 rfl rfl ?_
  refine G_iload_n (pc := 10) (i := 0) hC dJ16_checkIndex_10 rfl rfl ?_
  refine G_iload_n (pc := 11) (i := 1) hC dJ16_checkIndex_11 rfl rfl ?_
  exact hw.elim
theorem m_J16_checkIndex {l : Launch} {g : gT} {F : Nat} {p0 : Int32} {p1 : Int32} {p2 : Option Nat} {M : hM} {Q : Int32 → hM → Prop} (hJ : JK l g) (hw : w_J16_checkIndex g F p0 p1 p2 M Q) : MG l g yJ16_checkIndex (ws_ yJ16_checkIndex cJ16_checkIndex 3 (some .int)) 1 12 [.int p0, .int p1, va_rf p2] M (PI Q) := by
  refine MG_of hJ.2.1 (by decide) (cat_i (cat_i (cat_r cat_e))) (Nat.le_of_ble_eq_true rfl) (fun k hl hg hin hQ hC => ?_)
  subst hl hg
  show GW k 3 M 0 [some (.int p0), some (.int p1), some (va_rf p2)] []
  refine G_iload_n (pc := 0) (i := 0) hC dJ16_checkIndex_0 rfl rfl ?_
  refine G_if_lt (pc := 1) (tgt := 9) hC dJ16_checkIndex_1 (by decide) (fun hc => ?_) (fun hc => ?_)
  · replace hw := hw.1 hc
    exact g_J16_checkIndex_9 hJ hC hQ hin   M hw
  · replace hw := hw.2 hc
    refine G_iload_n (pc := 4) (i := 0) hC dJ16_checkIndex_4 rfl rfl ?_
    refine G_iload_n (pc := 5) (i := 1) hC dJ16_checkIndex_5 rfl rfl ?_
    refine G_icmp_lt (pc := 6) (tgt := 16) hC dJ16_checkIndex_6 (by decide) (fun hc => ?_) (fun hc => ?_)
    · replace hw := hw.1 hc
      refine G_iload_n (pc := 16) (i := 0) hC dJ16_checkIndex_16 rfl rfl ?_
      exact G_iret (pc := 17) hC rfl hQ dJ16_checkIndex_17 hw
    · replace hw := hw.2 hc
      exact g_J16_checkIndex_9 hJ hC hQ hin   M hw
theorem hdK_J16_checkIndex : yJ16_checkIndex.cls = "jdk/internal/util/Preconditions" ∧ yJ16_checkIndex.cls ≠ "java/lang/invoke/MethodHandle" ∧ yJ16_checkIndex.cls ≠ "java/lang/invoke/VarHandle" ∧ (parseMethodDescriptor yJ16_checkIndex.desc).map (fun d => d.parameters.length) = some 3 := by decide +kernel
def w_J21_checkIndex (g : gT) (F : Nat) (p0 : Int32) (p1 : Int32) (M : hM) (Q : Int32 → hM → Prop) : Prop :=
  w_J16_checkIndex g F p0 p1 none M (fun x2 M1 => Q x2 M1)
theorem m_J21_checkIndex {l : Launch} {g : gT} {F : Nat} {p0 : Int32} {p1 : Int32} {M : hM} {Q : Int32 → hM → Prop} (hJ : JK l g) (hw : w_J21_checkIndex g F p0 p1 M Q) : MG l g yJ21_checkIndex (ws_ yJ21_checkIndex cJ21_checkIndex 2 (some .int)) 2 34 [.int p0, .int p1] M (PI Q) := by
  refine MG_of hJ.2.1 (by decide) (cat_i (cat_i cat_e)) (Nat.le_of_ble_eq_true rfl) (fun k hl hg hin hQ hC => ?_)
  subst hl hg
  show GW k 2 M 0 [some (.int p0), some (.int p1)] []
  refine G_iload_n (pc := 0) (i := 0) hC dJ21_checkIndex_0 rfl rfl ?_
  refine G_iload_n (pc := 1) (i := 1) hC dJ21_checkIndex_1 rfl rfl ?_
  refine G_null (pc := 2) hC dJ21_checkIndex_2 ?_
  refine G_callS (pc := 3) (n := 3) (As := [.int p0, .int p1, va_rf none]) (rest := []) hC (m_J16_checkIndex hJ hw) (lw_S q964 q965 q103 q966) hdK_J16_checkIndex.2 (by decide) rfl rfl (st_c cat_e (Nat.le_of_ble_eq_true rfl)) dJ21_checkIndex_3 (kI fun x2 M1 hw => ?_)
  exact G_iret (pc := 6) hC rfl hQ dJ21_checkIndex_6 hw
def w_J2_elementData (g : gT) (F : Nat) (a0 : Nat) (p1 : Int32) (M : hM) (Q : Option Nat → hM → Prop) : Prop :=
  gF M (some a0) 21 1 fun x1 => aR M x1 p1 fun x2 => Q x2 M
theorem m_J2_elementData {l : Launch} {g : gT} {F : Nat} {a0 : Nat} {p1 : Int32} {M : hM} {Q : Option Nat → hM → Prop} (hJ : JK l g) (hw : w_J2_elementData g F a0 p1 M Q) : MG l g yJ2_elementData (ws_ yJ2_elementData cJ2_elementData 2 (some (.object "java/lang/Object"))) 1 12 [va_rf (some a0), .int p1] M (PR Q) := by
  refine MG_of hJ.2.1 (by decide) (cat_r (cat_i cat_e)) (Nat.le_of_ble_eq_true rfl) (fun k hl hg hin hQ hC => ?_)
  subst hl hg
  show GW k 2 M 0 [some (va_rf (some a0)), some (.int p1)] []
  refine G_aload_n (pc := 0) (i := 0) hC dJ2_elementData_0 rfl rfl ?_
  refine G_getF (pc := 1) (ci := 21) (C := RJ2) (T := TJ2) (N := 3) (f := 1) hC rfl in_J2 (Nat.le_of_ble_eq_true rfl) q174 (fun _ h => h) dJ2_elementData_1 hw (fun x1 hw => ?_)
  refine G_iload_n (pc := 4) (i := 1) hC dJ2_elementData_4 rfl rfl ?_
  refine G_aald (pc := 5) hC dJ2_elementData_5 hw (fun x2 hw => ?_)
  exact G_aret (pc := 6) hC (Or.inl ⟨_, rfl⟩) hQ dJ2_elementData_6 hw
theorem hdK_J21_checkIndex : yJ21_checkIndex.cls = "java/util/Objects" ∧ yJ21_checkIndex.cls ≠ "java/lang/invoke/MethodHandle" ∧ yJ21_checkIndex.cls ≠ "java/lang/invoke/VarHandle" ∧ (parseMethodDescriptor yJ21_checkIndex.desc).map (fun d => d.parameters.length) = some 2 := by decide +kernel
theorem hdK_J2_elementData : yJ2_elementData.cls = "java/util/ArrayList" ∧ yJ2_elementData.cls ≠ "java/lang/invoke/MethodHandle" ∧ yJ2_elementData.cls ≠ "java/lang/invoke/VarHandle" ∧ (parseMethodDescriptor yJ2_elementData.desc).map (fun d => d.parameters.length) = some 1 := by decide +kernel
def w_J2_get (g : gT) (F : Nat) (a0 : Nat) (p1 : Int32) (M : hM) (Q : Option Nat → hM → Prop) : Prop :=
  gI M (some a0) 21 2 fun x1 => w_J21_checkIndex g F p1 x1 M (fun x3 M2 => (isC M2 a0 21 ∧ w_J2_elementData g F a0 p1 M2 (fun x5 M4 => Q x5 M4)))
theorem m_J2_get {l : Launch} {g : gT} {F : Nat} {a0 : Nat} {p1 : Int32} {M : hM} {Q : Option Nat → hM → Prop} (hJ : JK l g) (hw : w_J2_get g F a0 p1 M Q) : MG l g yJ2_get (ws_ yJ2_get cJ2_get 2 (some (.object "java/lang/Object"))) 3 55 [va_rf (some a0), .int p1] M (PR Q) := by
  refine MG_of hJ.2.1 (by decide) (cat_r (cat_i cat_e)) (Nat.le_of_ble_eq_true rfl) (fun k hl hg hin hQ hC => ?_)
  subst hl hg
  show GW k 2 M 0 [some (va_rf (some a0)), some (.int p1)] []
  refine G_iload_n (pc := 0) (i := 1) hC dJ2_get_0 rfl rfl ?_
  refine G_aload_n (pc := 1) (i := 0) hC dJ2_get_1 rfl rfl ?_
  refine G_getI (pc := 2) (ci := 21) (C := RJ2) (T := TJ2) (N := 3) (f := 2) hC rfl in_J2 (Nat.le_of_ble_eq_true rfl) q177 (fun _ h => h) dJ2_get_2 hw (fun x1 hw => ?_)
  refine G_callS (pc := 5) (n := 2) (As := [.int p1, .int x1]) (rest := []) hC (m_J21_checkIndex hJ hw) (lw_S q961 q962 q109 q963) hdK_J21_checkIndex.2 (by decide) rfl rfl (st_c cat_e (Nat.le_of_ble_eq_true rfl)) dJ2_get_5 (kI fun x3 M2 hw => ?_)
  refine G_pop (pc := 8) hC dJ2_get_8 rfl ?_
  refine G_aload_n (pc := 9) (i := 0) hC dJ2_get_9 rfl rfl ?_
  refine G_iload_n (pc := 10) (i := 1) hC dJ2_get_10 rfl rfl ?_
  obtain ⟨hb, hw⟩ := hw
  refine G_callV (pc := 11) (n := 1) (C := "java/util/ArrayList") (b := a0) (As := [.int p1]) (rest := []) hC (m_J2_elementData hJ hw) (lw_V q967 q968 q969 q87 q970) hdK_J2_elementData (by decide) (rcv (C := RJ2) (T := TJ2) (N := 3) hC hb rfl) rfl rfl (st_c cat_e (Nat.le_of_ble_eq_true rfl)) dJ2_get_11 (kRf fun x5 M4 hw => ?_)
  exact G_aret (pc := 14) hC (Or.inl ⟨_, rfl⟩) hQ dJ2_get_14 hw
def w_J8_hugeLength (g : gT) (F : Nat) (p0 : Int32) (p1 : Int32) (M : hM) (Q : Int32 → hM → Prop) : Prop :=
  ((0 ≤ (p0 + p1) → (((2147483639 : Int32) < (p0 + p1) → Q (p0 + p1) M) ∧ (¬ ((2147483639 : Int32) < (p0 + p1)) → Q (2147483639 : Int32) M))) ∧ (¬ (0 ≤ (p0 + p1)) → False))
theorem m_J8_hugeLength {l : Launch} {g : gT} {F : Nat} {p0 : Int32} {p1 : Int32} {M : hM} {Q : Int32 → hM → Prop} (hJ : JK l g) (hw : w_J8_hugeLength g F p0 p1 M Q) : MG l g yJ8_hugeLength (ws_ yJ8_hugeLength cJ8_hugeLength 3 (some .int)) 1 12 [.int p0, .int p1] M (PI Q) := by
  refine MG_of hJ.2.1 (by decide) (cat_i (cat_i cat_e)) (Nat.le_of_ble_eq_true rfl) (fun k hl hg hin hQ hC => ?_)
  subst hl hg
  show GW k 3 M 0 [some (.int p0), some (.int p1), none] []
  refine G_iload_n (pc := 0) (i := 0) hC dJ8_hugeLength_0 rfl rfl ?_
  refine G_iload_n (pc := 1) (i := 1) hC dJ8_hugeLength_1 rfl rfl ?_
  refine G_iadd (pc := 2) hC dJ8_hugeLength_2 ?_
  refine G_istore_n (pc := 3) (i := 2) (lw := [some (.int p0), some (.int p1), some (.int (p0 + p1))]) hC dJ8_hugeLength_3 rfl (Nat.le_of_ble_eq_true rfl) rfl ?_
  refine G_iload_n (pc := 4) (i := 2) hC dJ8_hugeLength_4 rfl rfl ?_
  refine G_if_ge (pc := 5) (tgt := 49) hC dJ8_hugeLength_5 (by decide) (fun hc => ?_) (fun hc => ?_)
  · replace hw := hw.1 hc
    refine G_iload_n (pc := 49) (i := 2) hC dJ8_hugeLength_49 rfl rfl ?_
    refine G_ldcI (pc := 50) (v := 2147483639) hC q283 dJ8_hugeLength_50 ?_
    refine G_icmp_gt (pc := 52) (tgt := 58) hC dJ8_hugeLength_52 (by decide) (fun hc => ?_) (fun hc => ?_)
    · replace hw := hw.1 hc
      refine G_iload_n (pc := 58) (i := 2) hC dJ8_hugeLength_58 rfl rfl ?_
      exact G_iret (pc := 59) hC rfl hQ dJ8_hugeLength_59 hw
    · replace hw := hw.2 hc
      refine G_ldcI (pc := 55) (v := 2147483639) hC q283 dJ8_hugeLength_55 ?_
      exact G_iret (pc := 57) hC rfl hQ dJ8_hugeLength_57 hw
  · replace hw := hw.2 hc
    exact hw.elim
theorem hdK_J8_hugeLength : yJ8_hugeLength.cls = "jdk/internal/util/ArraysSupport" ∧ yJ8_hugeLength.cls ≠ "java/lang/invoke/MethodHandle" ∧ yJ8_hugeLength.cls ≠ "java/lang/invoke/VarHandle" ∧ (parseMethodDescriptor yJ8_hugeLength.desc).map (fun d => d.parameters.length) = some 2 := by decide +kernel
def w_J8_newLength_21 (g : gT) (F : Nat) (p0 : Int32) (p1 : Int32) (p2 : Int32) (Q : Int32 → hM → Prop) (M : hM) : Prop :=
  w_J8_hugeLength g F p0 p1 M (fun x2 M1 => Q x2 M1)
def w_J8_newLength (g : gT) (F : Nat) (p0 : Int32) (p1 : Int32) (p2 : Int32) (M : hM) (Q : Int32 → hM → Prop) : Prop :=
  (((p0 + (if p1 < p2 then p2 else p1)) ≤ (0 : Int32) → w_J8_newLength_21 g F p0 p1 p2 Q M) ∧ (¬ ((p0 + (if p1 < p2 then p2 else p1)) ≤ (0 : Int32)) → (((2147483639 : Int32) < (p0 + (if p1 < p2 then p2 else p1)) → w_J8_newLength_21 g F p0 p1 p2 Q M) ∧ (¬ ((2147483639 : Int32) < (p0 + (if p1 < p2 then p2 else p1))) → Q (p0 + (if p1 < p2 then p2 else p1)) M))))
theorem g_J8_newLength_21 {k : kT} {F : Nat} {p0 : Int32} {p1 : Int32} {p2 : Int32} {Q : Int32 → hM → Prop} (hJ : JK (kl k) (kg k)) (hC : CX k 4 cJ8_newLength RJ8 (some .int) 2 34) (hQ : isQ k (PI Q)) (hin : (kt k).name = "newLength") : ∀  (M : hM), w_J8_newLength_21 (kg k) F p0 p1 p2 Q  M → GW k 4 M 21 [some (.int p0), some (.int p1), some (.int p2), none] [] := by
  intro  M hw
  refine G_iload_n (pc := 21) (i := 0) hC dJ8_newLength_21 rfl rfl ?_
  refine G_iload_n (pc := 22) (i := 1) hC dJ8_newLength_22 rfl rfl ?_
  refine G_callS (pc := 23) (n := 2) (As := [.int p0, .int p1]) (rest := []) hC (m_J8_hugeLength hJ hw) (lw_S q284 q285 q94 q286) hdK_J8_hugeLength.2 (by decide) rfl rfl (st_c cat_e (Nat.le_of_ble_eq_true rfl)) dJ8_newLength_23 (kI fun x2 M1 hw => ?_)
  exact G_iret (pc := 26) hC rfl hQ dJ8_newLength_26 hw
theorem m_J8_newLength {l : Launch} {g : gT} {F : Nat} {p0 : Int32} {p1 : Int32} {p2 : Int32} {M : hM} {Q : Int32 → hM → Prop} (hJ : JK l g) (hw : w_J8_newLength g F p0 p1 p2 M Q) : MG l g yJ8_newLength (ws_ yJ8_newLength cJ8_newLength 4 (some .int)) 2 34 [.int p0, .int p1, .int p2] M (PI Q) := by
  refine MG_of hJ.2.1 (by decide) (cat_i (cat_i (cat_i cat_e))) (Nat.le_of_ble_eq_true rfl) (fun k hl hg hin hQ hC => ?_)
  subst hl hg
  show GW k 4 M 0 [some (.int p0), some (.int p1), some (.int p2), none] []
  refine G_iload_n (pc := 0) (i := 0) hC dJ8_newLength_0 rfl rfl ?_
  refine G_iload_n (pc := 1) (i := 1) hC dJ8_newLength_1 rfl rfl ?_
  refine G_iload_n (pc := 2) (i := 2) hC dJ8_newLength_2 rfl rfl ?_
  refine G_max (pc := 3) hC q280 q281 q95 q282 rfl rfl (st_c (cat_i cat_e) (Nat.le_of_ble_eq_true rfl)) dJ8_newLength_3 ?_
  refine G_iadd (pc := 6) hC dJ8_newLength_6 ?_
  refine G_istore_n (pc := 7) (i := 3) (lw := [some (.int p0), some (.int p1), some (.int p2), some (.int (p0 + (if p1 < p2 then p2 else p1)))]) hC dJ8_newLength_7 rfl (Nat.le_of_ble_eq_true rfl) rfl ?_
  refine G_iconst (pc := 8) (v := 0) hC dJ8_newLength_8 (by decide) ?_
  refine G_iload_n (pc := 9) (i := 3) hC dJ8_newLength_9 rfl rfl ?_
  refine G_icmp_ge (pc := 10) (tgt := 21) hC dJ8_newLength_10 (by decide) (fun hc => ?_) (fun hc => ?_)
  · replace hw := hw.1 hc
    refine G_loc (lv' := [some (.int p0), some (.int p1), some (.int p2), none]) ⟨Or.inr rfl, Or.inr rfl, Or.inr rfl, Or.inl rfl, trivial⟩ ?_
    exact g_J8_newLength_21 hJ hC hQ hin   M hw
  · replace hw := hw.2 hc
    refine G_iload_n (pc := 13) (i := 3) hC dJ8_newLength_13 rfl rfl ?_
    refine G_ldcI (pc := 14) (v := 2147483639) hC q283 dJ8_newLength_14 ?_
    refine G_icmp_gt (pc := 16) (tgt := 21) hC dJ8_newLength_16 (by decide) (fun hc => ?_) (fun hc => ?_)
    · replace hw := hw.1 hc
      refine G_loc (lv' := [some (.int p0), some (.int p1), some (.int p2), none]) ⟨Or.inr rfl, Or.inr rfl, Or.inr rfl, Or.inl rfl, trivial⟩ ?_
      exact g_J8_newLength_21 hJ hC hQ hin   M hw
    · replace hw := hw.2 hc
      refine G_iload_n (pc := 19) (i := 3) hC dJ8_newLength_19 rfl rfl ?_
      exact G_iret (pc := 20) hC rfl hQ dJ8_newLength_20 hw
theorem hdK_J8_newLength : yJ8_newLength.cls = "jdk/internal/util/ArraysSupport" ∧ yJ8_newLength.cls ≠ "java/lang/invoke/MethodHandle" ∧ yJ8_newLength.cls ≠ "java/lang/invoke/VarHandle" ∧ (parseMethodDescriptor yJ8_newLength.desc).map (fun d => d.parameters.length) = some 3 := by decide +kernel
def w_J2_grow_2_20 (g : gT) (F : Nat) (a0 : Nat) (p1 : Int32) (Q : Option Nat → hM → Prop) (v2 : Int32) (M : hM) : Prop :=
  w_J8_newLength g F v2 (p1 - v2) (v2 >>> ((1 : Int32) &&& 31)) M (fun x2 M1 => gF M1 (some a0) 21 1 fun x3 => w_J10_copyOf g F x3 x2 M1 (fun x5 M4 => pV M4 (some a0) 21 1 (va_rf x5) fun M6 => Q x5 M6))
def w_J2_grow_2 (g : gT) (F : Nat) (a0 : Nat) (p1 : Int32) (M : hM) (Q : Option Nat → hM → Prop) : Prop :=
  gF M (some a0) 21 1 fun x1 => aLenK g M x1 fun x2 => ((0 < x2 → w_J2_grow_2_20 g F a0 p1 Q x2 M) ∧ (¬ (0 < x2) → gF M (some a0) 21 1 fun x3 => ((x3 = (some (gK g 256)) → nA M 6 (if (10 : Int32) < p1 then p1 else (10 : Int32)) (.inr (.inr (.inr (.inr (fun _ => none))))) fun q4 M5 => pV M5 (some a0) 21 1 (va_rf (some q4)) fun M6 => Q (some q4) M6) ∧ (¬ x3 = (some (gK g 256)) → w_J2_grow_2_20 g F a0 p1 Q x2 M))))
theorem g_J2_grow_2_20 {k : kT} {F : Nat} {a0 : Nat} {p1 : Int32} {Q : Option Nat → hM → Prop} (hJ : JK (kl k) (kg k)) (hC : CX k 4 cJ2_grow_2 RJ2 (some (.array (.object "java/lang/Object"))) 3 84) (hQ : isQ k (PR Q)) (hin : (kt k).name = "grow") : ∀ (v2 : Int32) (M : hM), w_J2_grow_2_20 (kg k) F a0 p1 Q v2 M → GW k 4 M 20 [some (va_rf (some a0)), some (.int p1), some (.int v2), none] [] := by
  intro v2 M hw
  refine G_iload_n (pc := 20) (i := 2) hC dJ2_grow_2_20 rfl rfl ?_
  refine G_iload_n (pc := 21) (i := 1) hC dJ2_grow_2_21 rfl rfl ?_
  refine G_iload_n (pc := 22) (i := 2) hC dJ2_grow_2_22 rfl rfl ?_
  refine G_isub (pc := 23) hC dJ2_grow_2_23 ?_
  refine G_iload_n (pc := 24) (i := 2) hC dJ2_grow_2_24 rfl rfl ?_
  refine G_iconst (pc := 25) (v := 1) hC dJ2_grow_2_25 (by decide) ?_
  refine G_ishr (pc := 26) hC dJ2_grow_2_26 ?_
  refine G_callS (pc := 27) (n := 3) (As := [.int v2, .int (p1 - v2), .int (v2 >>> ((1 : Int32) &&& 31))]) (rest := []) hC (m_J8_newLength hJ hw) (lw_S q277 q278 q94 q279) hdK_J8_newLength.2 (by decide) rfl rfl (st_c cat_e (Nat.le_of_ble_eq_true rfl)) dJ2_grow_2_27 (kI fun x2 M1 hw => ?_)
  refine G_istore_n (pc := 30) (i := 3) (lw := [some (va_rf (some a0)), some (.int p1), some (.int v2), some (.int x2)]) hC dJ2_grow_2_30 rfl (Nat.le_of_ble_eq_true rfl) rfl ?_
  refine G_aload_n (pc := 31) (i := 0) hC dJ2_grow_2_31 rfl rfl ?_
  refine G_aload_n (pc := 32) (i := 0) hC dJ2_grow_2_32 rfl rfl ?_
  refine G_getF (pc := 33) (ci := 21) (C := RJ2) (T := TJ2) (N := 3) (f := 1) hC rfl in_J2 (Nat.le_of_ble_eq_true rfl) q174 (fun _ h => h) dJ2_grow_2_33 hw (fun x3 hw => ?_)
  refine G_iload_n (pc := 36) (i := 3) hC dJ2_grow_2_36 rfl rfl ?_
  refine G_callS (pc := 37) (n := 2) (As := [va_rf x3, .int x2]) (rest := [va_rf (some a0)]) hC (m_J10_copyOf hJ hw) (lw_S q287 q288 q96 q289) hdK_J10_copyOf.2 (by decide) rfl rfl (st_c (cat_r cat_e) (Nat.le_of_ble_eq_true rfl)) dJ2_grow_2_37 (kRf fun x5 M4 hw => ?_)
  refine G_dup_x1 (pc := 40) hC dJ2_grow_2_40 (rf_cat _) (rf_cat _) ?_
  refine G_put (pc := 41) (ci := 21) (C := RJ2) (T := TJ2) (N := 3) (f := 1) tyJ2 hC rfl in_J2 tyJ2_ok nmJ2 (Nat.le_of_ble_eq_true rfl) q174 (fun _ h => h) rfl (nR_a _ _) (fR_a _ _) dJ2_grow_2_41 hw (fun M6 hw => ?_)
  exact G_aret (pc := 44) hC (Or.inr ⟨_, rfl⟩) hQ dJ2_grow_2_44 hw
theorem m_J2_grow_2 {l : Launch} {g : gT} {F : Nat} {a0 : Nat} {p1 : Int32} {M : hM} {Q : Option Nat → hM → Prop} (hJ : JK l g) (hw : w_J2_grow_2 g F a0 p1 M Q) : MG l g yJ2_grow_2 (ws_ yJ2_grow_2 cJ2_grow_2 4 (some (.array (.object "java/lang/Object")))) 3 84 [va_rf (some a0), .int p1] M (PR Q) := by
  refine MG_of hJ.2.1 (by decide) (cat_r (cat_i cat_e)) (Nat.le_of_ble_eq_true rfl) (fun k hl hg hin hQ hC => ?_)
  subst hl hg
  show GW k 4 M 0 [some (va_rf (some a0)), some (.int p1), none, none] []
  refine G_aload_n (pc := 0) (i := 0) hC dJ2_grow_2_0 rfl rfl ?_
  refine G_getF (pc := 1) (ci := 21) (C := RJ2) (T := TJ2) (N := 3) (f := 1) hC rfl in_J2 (Nat.le_of_ble_eq_true rfl) q174 (fun _ h => h) dJ2_grow_2_1 hw (fun x1 hw => ?_)
  refine G_alenK (pc := 4) hJ hC dJ2_grow_2_4 hw (fun x2 hw => ?_)
  refine G_istore_n (pc := 5) (i := 2) (lw := [some (va_rf (some a0)), some (.int p1), some (.int x2), none]) hC dJ2_grow_2_5 rfl (Nat.le_of_ble_eq_true rfl) rfl ?_
  refine G_iload_n (pc := 6) (i := 2) hC dJ2_grow_2_6 rfl rfl ?_
  refine G_if_gt (pc := 7) (tgt := 20) hC dJ2_grow_2_7 (by decide) (fun hc => ?_) (fun hc => ?_)
  · replace hw := hw.1 hc
    exact g_J2_grow_2_20 hJ hC hQ hin  x2 M hw
  · replace hw := hw.2 hc
    refine G_aload_n (pc := 10) (i := 0) hC dJ2_grow_2_10 rfl rfl ?_
    refine G_getF (pc := 11) (ci := 21) (C := RJ2) (T := TJ2) (N := 3) (f := 1) hC rfl in_J2 (Nat.le_of_ble_eq_true rfl) q174 (fun _ h => h) dJ2_grow_2_11 hw (fun x3 hw => ?_)
    refine G_gets (pc := 14) (v := va_rf (some (gK (kg k) 256))) hC (hC.sK hJ).1 q172 (fun _ h => h) dJ2_grow_2_14 ?_
    refine G_acmp_eq (pc := 17) (tgt := 45) hC dJ2_grow_2_17 (by decide) (fun hc => ?_) (fun hc => ?_)
    · replace hw := hw.1 hc
      refine G_aload_n (pc := 45) (i := 0) hC dJ2_grow_2_45 rfl rfl ?_
      refine G_bipush (pc := 46) (v := 10) hC dJ2_grow_2_46 (by decide) ?_
      refine G_iload_n (pc := 48) (i := 1) hC dJ2_grow_2_48 rfl rfl ?_
      refine G_max (pc := 49) hC q351 q281 q95 q282 rfl rfl (st_c (cat_r cat_e) (Nat.le_of_ble_eq_true rfl)) dJ2_grow_2_49 ?_
      refine G_anewO (pc := 52) hC q352 dJ2_grow_2_52 hw (fun q4 M5 hw => ?_)
      refine G_dup_x1 (pc := 55) hC dJ2_grow_2_55 (rf_cat _) (rf_cat _) ?_
      refine G_put (pc := 56) (ci := 21) (C := RJ2) (T := TJ2) (N := 3) (f := 1) tyJ2 hC rfl in_J2 tyJ2_ok nmJ2 (Nat.le_of_ble_eq_true rfl) q174 (fun _ h => h) rfl (nR_a _ _) (fR_a _ _) dJ2_grow_2_56 hw (fun M6 hw => ?_)
      exact G_aret (pc := 59) hC (Or.inr ⟨_, rfl⟩) hQ dJ2_grow_2_59 hw
    · replace hw := hw.2 hc
      exact g_J2_grow_2_20 hJ hC hQ hin  x2 M hw
theorem hdK_J2_grow_2 : yJ2_grow_2.cls = "java/util/ArrayList" ∧ yJ2_grow_2.cls ≠ "java/lang/invoke/MethodHandle" ∧ yJ2_grow_2.cls ≠ "java/lang/invoke/VarHandle" ∧ (parseMethodDescriptor yJ2_grow_2.desc).map (fun d => d.parameters.length) = some 1 := by decide +kernel
def w_J2_grow (g : gT) (F : Nat) (a0 : Nat) (M : hM) (Q : Option Nat → hM → Prop) : Prop :=
  gI M (some a0) 21 2 fun x1 => (isC M a0 21 ∧ w_J2_grow_2 g F a0 (x1 + (1 : Int32)) M (fun x3 M2 => Q x3 M2))
theorem m_J2_grow {l : Launch} {g : gT} {F : Nat} {a0 : Nat} {M : hM} {Q : Option Nat → hM → Prop} (hJ : JK l g) (hw : w_J2_grow g F a0 M Q) : MG l g yJ2_grow (ws_ yJ2_grow cJ2_grow 1 (some (.array (.object "java/lang/Object")))) 4 107 [va_rf (some a0)] M (PR Q) := by
  refine MG_of hJ.2.1 (by decide) (cat_r cat_e) (Nat.le_of_ble_eq_true rfl) (fun k hl hg hin hQ hC => ?_)
  subst hl hg
  show GW k 1 M 0 [some (va_rf (some a0))] []
  refine G_aload_n (pc := 0) (i := 0) hC dJ2_grow_0 rfl rfl ?_
  refine G_aload_n (pc := 1) (i := 0) hC dJ2_grow_1 rfl rfl ?_
  refine G_getI (pc := 2) (ci := 21) (C := RJ2) (T := TJ2) (N := 3) (f := 2) hC rfl in_J2 (Nat.le_of_ble_eq_true rfl) q177 (fun _ h => h) dJ2_grow_2 hw (fun x1 hw => ?_)
  refine G_iconst (pc := 5) (v := 1) hC dJ2_grow_5 (by decide) ?_
  refine G_iadd (pc := 6) hC dJ2_grow_6 ?_
  obtain ⟨hb, hw⟩ := hw
  refine G_callV (pc := 7) (n := 1) (C := "java/util/ArrayList") (b := a0) (As := [.int (x1 + (1 : Int32))]) (rest := []) hC (m_J2_grow_2 hJ hw) (lw_V q273 q275 qs2 q87 q276) hdK_J2_grow_2 (by decide) (rcv (C := RJ2) (T := TJ2) (N := 3) hC hb rfl) rfl rfl (st_c cat_e (Nat.le_of_ble_eq_true rfl)) dJ2_grow_7 (kRf fun x3 M2 hw => ?_)
  exact G_aret (pc := 10) hC (Or.inr ⟨_, rfl⟩) hQ dJ2_grow_10 hw
theorem hdK_J2_grow : yJ2_grow.cls = "java/util/ArrayList" ∧ yJ2_grow.cls ≠ "java/lang/invoke/MethodHandle" ∧ yJ2_grow.cls ≠ "java/lang/invoke/VarHandle" ∧ (parseMethodDescriptor yJ2_grow.desc).map (fun d => d.parameters.length) = some 0 := by decide +kernel
def w_J2_add_2_11 (g : gT) (F : Nat) (a0 : Nat) (p1 : Option Nat) (p3 : Int32) (Q : hM → Prop) (v2 : Option Nat) (M : hM) : Prop :=
  sR g M v2 p3 p1 fun M1 => pV M1 (some a0) 21 2 (.int (p3 + (1 : Int32))) fun M2 => Q M2
def w_J2_add_2 (g : gT) (F : Nat) (a0 : Nat) (p1 : Option Nat) (p2 : Option Nat) (p3 : Int32) (M : hM) (Q : hM → Prop) : Prop :=
  aLenK g M p2 fun x1 => ((¬ p3 = x1 → w_J2_add_2_11 g F a0 p1 p3 Q p2 M) ∧ (p3 = x1 → (isC M a0 21 ∧ w_J2_grow g F a0  M (fun x3 M2 => w_J2_add_2_11 g F a0 p1 p3 Q x3 M2))))
theorem g_J2_add_2_11 {k : kT} {F : Nat} {a0 : Nat} {p1 : Option Nat} {p3 : Int32} {Q : hM → Prop} (hJ : JK (kl k) (kg k)) (hC : CX k 4 cJ2_add_2 RJ2 none 5 127) (hQ : isQ k (PU Q)) (hin : (kt k).name = "add") : ∀ (v2 : Option Nat) (M : hM), w_J2_add_2_11 (kg k) F a0 p1 p3 Q v2 M → GW k 4 M 11 [some (va_rf (some a0)), some (va_rf p1), some (va_rf v2), some (.int p3)] [] := by
  intro v2 M hw
  refine G_aload_n (pc := 11) (i := 2) hC dJ2_add_2_11 rfl rfl ?_
  refine G_iload_n (pc := 12) (i := 3) hC dJ2_add_2_12 rfl rfl ?_
  refine G_aload_n (pc := 13) (i := 1) hC dJ2_add_2_13 rfl rfl ?_
  refine G_aastO (pc := 14) hJ hC dJ2_add_2_14 hw (fun M1 hw => ?_)
  refine G_aload_n (pc := 15) (i := 0) hC dJ2_add_2_15 rfl rfl ?_
  refine G_iload_n (pc := 16) (i := 3) hC dJ2_add_2_16 rfl rfl ?_
  refine G_iconst (pc := 17) (v := 1) hC dJ2_add_2_17 (by decide) ?_
  refine G_iadd (pc := 18) hC dJ2_add_2_18 ?_
  refine G_put (pc := 19) (ci := 21) (C := RJ2) (T := TJ2) (N := 3) (f := 2) tyJ2 hC rfl in_J2 tyJ2_ok nmJ2 (Nat.le_of_ble_eq_true rfl) q177 (fun _ h => h) rfl rfl rfl dJ2_add_2_19 hw (fun M2 hw => ?_)
  exact G_ret (pc := 22) hC hQ dJ2_add_2_22 hw
theorem m_J2_add_2 {l : Launch} {g : gT} {F : Nat} {a0 : Nat} {p1 : Option Nat} {p2 : Option Nat} {p3 : Int32} {M : hM} {Q : hM → Prop} (hJ : JK l g) (hw : w_J2_add_2 g F a0 p1 p2 p3 M Q) : MG l g yJ2_add_2 (ws_ yJ2_add_2 cJ2_add_2 4 none) 5 127 [va_rf (some a0), va_rf p1, va_rf p2, .int p3] M (PU Q) := by
  refine MG_of hJ.2.1 (by decide) (cat_r (cat_r (cat_r (cat_i cat_e)))) (Nat.le_of_ble_eq_true rfl) (fun k hl hg hin hQ hC => ?_)
  subst hl hg
  show GW k 4 M 0 [some (va_rf (some a0)), some (va_rf p1), some (va_rf p2), some (.int p3)] []
  refine G_iload_n (pc := 0) (i := 3) hC dJ2_add_2_0 rfl rfl ?_
  refine G_aload_n (pc := 1) (i := 2) hC dJ2_add_2_1 rfl rfl ?_
  refine G_alenK (pc := 2) hJ hC dJ2_add_2_2 hw (fun x1 hw => ?_)
  refine G_icmp_ne (pc := 3) (tgt := 11) hC dJ2_add_2_3 (by decide) (fun hc => ?_) (fun hc => ?_)
  · replace hw := hw.1 hc
    exact g_J2_add_2_11 hJ hC hQ hin  p2 M hw
  · replace hw := hw.2 hc
    refine G_aload_n (pc := 6) (i := 0) hC dJ2_add_2_6 rfl rfl ?_
    obtain ⟨hb, hw⟩ := hw
    refine G_callV (pc := 7) (n := 0) (C := "java/util/ArrayList") (b := a0) (As := []) (rest := []) hC (m_J2_grow hJ hw) (lw_V q269 q271 qs1 q87 q272) hdK_J2_grow (by decide) (rcv (C := RJ2) (T := TJ2) (N := 3) hC hb rfl) rfl rfl (st_c cat_e (Nat.le_of_ble_eq_true rfl)) dJ2_add_2_7 (kRf fun x3 M2 hw => ?_)
    refine G_astore_n (pc := 10) (i := 2) (lw := [some (va_rf (some a0)), some (va_rf p1), some (va_rf x3), some (.int p3)]) hC dJ2_add_2_10 rfl (Nat.le_of_ble_eq_true rfl) rfl ?_
    exact g_J2_add_2_11 hJ hC hQ hin  x3 M2 hw
theorem hdK_J2_add_2 : yJ2_add_2.cls = "java/util/ArrayList" ∧ yJ2_add_2.cls ≠ "java/lang/invoke/MethodHandle" ∧ yJ2_add_2.cls ≠ "java/lang/invoke/VarHandle" ∧ (parseMethodDescriptor yJ2_add_2.desc).map (fun d => d.parameters.length) = some 3 := by decide +kernel
def w_J2_add (g : gT) (F : Nat) (a0 : Nat) (p1 : Option Nat) (M : hM) (Q : Int32 → hM → Prop) : Prop :=
  gI M (some a0) 21 0 fun x1 => pV M (some a0) 21 0 (.int (x1 + (1 : Int32))) fun M2 => gF M2 (some a0) 21 1 fun x3 => gI M2 (some a0) 21 2 fun x4 => (isC M2 a0 21 ∧ w_J2_add_2 g F a0 p1 x3 x4 M2 (fun M5 => Q (1 : Int32) M5))
theorem m_J2_add {l : Launch} {g : gT} {F : Nat} {a0 : Nat} {p1 : Option Nat} {M : hM} {Q : Int32 → hM → Prop} (hJ : JK l g) (hw : w_J2_add g F a0 p1 M Q) : MG l g yJ2_add (ws_ yJ2_add cJ2_add 2 (some .boolean)) 6 150 [va_rf (some a0), va_rf p1] M (PI Q) := by
  refine MG_of hJ.2.1 (by decide) (cat_r (cat_r cat_e)) (Nat.le_of_ble_eq_true rfl) (fun k hl hg hin hQ hC => ?_)
  subst hl hg
  show GW k 2 M 0 [some (va_rf (some a0)), some (va_rf p1)] []
  refine G_aload_n (pc := 0) (i := 0) hC dJ2_add_0 rfl rfl ?_
  refine G_dup (pc := 1) hC dJ2_add_1 (rf_cat _) ?_
  refine G_getI (pc := 2) (ci := 21) (C := RJ2) (T := TJ2) (N := 3) (f := 0) hC rfl in_J2 (Nat.le_of_ble_eq_true rfl) q183 (fun x h => u_same (hC.ts _ q180) x h) dJ2_add_2 hw (fun x1 hw => ?_)
  refine G_iconst (pc := 5) (v := 1) hC dJ2_add_5 (by decide) ?_
  refine G_iadd (pc := 6) hC dJ2_add_6 ?_
  refine G_put (pc := 7) (ci := 21) (C := RJ2) (T := TJ2) (N := 3) (f := 0) tyJ2 hC rfl in_J2 tyJ2_ok nmJ2 (Nat.le_of_ble_eq_true rfl) q183 (fun x h => u_same (hC.ts _ q180) x h) rfl rfl rfl dJ2_add_7 hw (fun M2 hw => ?_)
  refine G_aload_n (pc := 10) (i := 0) hC dJ2_add_10 rfl rfl ?_
  refine G_aload_n (pc := 11) (i := 1) hC dJ2_add_11 rfl rfl ?_
  refine G_aload_n (pc := 12) (i := 0) hC dJ2_add_12 rfl rfl ?_
  refine G_getF (pc := 13) (ci := 21) (C := RJ2) (T := TJ2) (N := 3) (f := 1) hC rfl in_J2 (Nat.le_of_ble_eq_true rfl) q174 (fun _ h => h) dJ2_add_13 hw (fun x3 hw => ?_)
  refine G_aload_n (pc := 16) (i := 0) hC dJ2_add_16 rfl rfl ?_
  refine G_getI (pc := 17) (ci := 21) (C := RJ2) (T := TJ2) (N := 3) (f := 2) hC rfl in_J2 (Nat.le_of_ble_eq_true rfl) q177 (fun _ h => h) dJ2_add_17 hw (fun x4 hw => ?_)
  obtain ⟨hb, hw⟩ := hw
  refine G_callV (pc := 20) (n := 3) (C := "java/util/ArrayList") (b := a0) (As := [va_rf p1, va_rf x3, .int x4]) (rest := []) hC (m_J2_add_2 hJ hw) (lw_V q265 q267 qs0 q87 q268) hdK_J2_add_2 (by decide) (rcv (C := RJ2) (T := TJ2) (N := 3) hC hb rfl) rfl rfl (st_c cat_e (Nat.le_of_ble_eq_true rfl)) dJ2_add_20 (kU fun M5 hw => ?_)
  refine G_iconst (pc := 23) (v := 1) hC dJ2_add_23 (by decide) ?_
  exact G_iret (pc := 24) hC rfl hQ dJ2_add_24 hw
def w_J2_rangeCheckForAdd_12 (g : gT) (F : Nat) (a0 : Nat) (p1 : Int32) (Q : hM → Prop) (M : hM) : Prop :=
  False
def w_J2_rangeCheckForAdd (g : gT) (F : Nat) (a0 : Nat) (p1 : Int32) (M : hM) (Q : hM → Prop) : Prop :=
  gI M (some a0) 21 2 fun x1 => ((x1 < p1 → w_J2_rangeCheckForAdd_12 g F a0 p1 Q M) ∧ (¬ (x1 < p1) → ((0 ≤ p1 → Q M) ∧ (¬ (0 ≤ p1) → w_J2_rangeCheckForAdd_12 g F a0 p1 Q M))))
theorem g_J2_rangeCheckForAdd_12 {k : kT} {F : Nat} {a0 : Nat} {p1 : Int32} {Q : hM → Prop} (hJ : JK (kl k) (kg k)) (hC : CX k 2 cJ2_rangeCheckForAdd RJ2 none 1 12) (hQ : isQ k (PU Q)) (hin : (kt k).name = "rangeCheckForAdd") : ∀  (M : hM), w_J2_rangeCheckForAdd_12 (kg k) F a0 p1 Q  M → GW k 2 M 12 [some (va_rf (some a0)), some (.int p1)] [] := by
  intro  M hw
  exact hw.elim
theorem m_J2_rangeCheckForAdd {l : Launch} {g : gT} {F : Nat} {a0 : Nat} {p1 : Int32} {M : hM} {Q : hM → Prop} (hJ : JK l g) (hw : w_J2_rangeCheckForAdd g F a0 p1 M Q) : MG l g yJ2_rangeCheckForAdd (ws_ yJ2_rangeCheckForAdd cJ2_rangeCheckForAdd 2 none) 1 12 [va_rf (some a0), .int p1] M (PU Q) := by
  refine MG_of hJ.2.1 (by decide) (cat_r (cat_i cat_e)) (Nat.le_of_ble_eq_true rfl) (fun k hl hg hin hQ hC => ?_)
  subst hl hg
  show GW k 2 M 0 [some (va_rf (some a0)), some (.int p1)] []
  refine G_iload_n (pc := 0) (i := 1) hC dJ2_rangeCheckForAdd_0 rfl rfl ?_
  refine G_aload_n (pc := 1) (i := 0) hC dJ2_rangeCheckForAdd_1 rfl rfl ?_
  refine G_getI (pc := 2) (ci := 21) (C := RJ2) (T := TJ2) (N := 3) (f := 2) hC rfl in_J2 (Nat.le_of_ble_eq_true rfl) q177 (fun _ h => h) dJ2_rangeCheckForAdd_2 hw (fun x1 hw => ?_)
  refine G_icmp_gt (pc := 5) (tgt := 12) hC dJ2_rangeCheckForAdd_5 (by decide) (fun hc => ?_) (fun hc => ?_)
  · replace hw := hw.1 hc
    exact g_J2_rangeCheckForAdd_12 hJ hC hQ hin   M hw
  · replace hw := hw.2 hc
    refine G_iload_n (pc := 8) (i := 1) hC dJ2_rangeCheckForAdd_8 rfl rfl ?_
    refine G_if_ge (pc := 9) (tgt := 25) hC dJ2_rangeCheckForAdd_9 (by decide) (fun hc => ?_) (fun hc => ?_)
    · replace hw := hw.1 hc
      exact G_ret (pc := 25) hC hQ dJ2_rangeCheckForAdd_25 hw
    · replace hw := hw.2 hc
      exact g_J2_rangeCheckForAdd_12 hJ hC hQ hin   M hw
theorem hdK_J2_rangeCheckForAdd : yJ2_rangeCheckForAdd.cls = "java/util/ArrayList" ∧ yJ2_rangeCheckForAdd.cls ≠ "java/lang/invoke/MethodHandle" ∧ yJ2_rangeCheckForAdd.cls ≠ "java/lang/invoke/VarHandle" ∧ (parseMethodDescriptor yJ2_rangeCheckForAdd.desc).map (fun d => d.parameters.length) = some 1 := by decide +kernel
def w_J2_add_3_38 (g : gT) (F : Nat) (a0 : Nat) (p1 : Int32) (p2 : Option Nat) (Q : hM → Prop) (v3 : Int32) (v4 : Option Nat) (M : hM) : Prop :=
  cQ g M v4 p1 v4 (p1 + (1 : Int32)) (v3 - p1) fun M1 => sR g M1 v4 p1 p2 fun M2 => pV M2 (some a0) 21 2 (.int (v3 + (1 : Int32))) fun M3 => Q M3
def w_J2_add_3 (g : gT) (F : Nat) (a0 : Nat) (p1 : Int32) (p2 : Option Nat) (M : hM) (Q : hM → Prop) : Prop :=
  (isC M a0 21 ∧ w_J2_rangeCheckForAdd g F a0 p1 M (fun M1 => gI M1 (some a0) 21 0 fun x2 => pV M1 (some a0) 21 0 (.int (x2 + (1 : Int32))) fun M3 => gI M3 (some a0) 21 2 fun x4 => gF M3 (some a0) 21 1 fun x5 => aLenK g M3 x5 fun x6 => ((¬ x4 = x6 → w_J2_add_3_38 g F a0 p1 p2 Q x4 x5 M3) ∧ (x4 = x6 → (isC M3 a0 21 ∧ w_J2_grow g F a0  M3 (fun x8 M7 => w_J2_add_3_38 g F a0 p1 p2 Q x4 x8 M7))))))
theorem g_J2_add_3_38 {k : kT} {F : Nat} {a0 : Nat} {p1 : Int32} {p2 : Option Nat} {Q : hM → Prop} (hJ : JK (kl k) (kg k)) (hC : CX k 5 cJ2_add_3 RJ2 none 5 127) (hQ : isQ k (PU Q)) (hin : (kt k).name = "add") : ∀ (v3 : Int32) (v4 : Option Nat) (M : hM), w_J2_add_3_38 (kg k) F a0 p1 p2 Q v3 v4 M → GW k 5 M 38 [some (va_rf (some a0)), some (.int p1), some (va_rf p2), some (.int v3), some (va_rf v4)] [] := by
  intro v3 v4 M hw
  refine G_aload (pc := 38) (i := 4) hC dJ2_add_3_38 rfl ?_
  refine G_iload_n (pc := 40) (i := 1) hC dJ2_add_3_40 rfl rfl ?_
  refine G_aload (pc := 41) (i := 4) hC dJ2_add_3_41 rfl ?_
  refine G_iload_n (pc := 43) (i := 1) hC dJ2_add_3_43 rfl rfl ?_
  refine G_iconst (pc := 44) (v := 1) hC dJ2_add_3_44 (by decide) ?_
  refine G_iadd (pc := 45) hC dJ2_add_3_45 ?_
  refine G_iload_n (pc := 46) (i := 3) hC dJ2_add_3_46 rfl rfl ?_
  refine G_iload_n (pc := 47) (i := 1) hC dJ2_add_3_47 rfl rfl ?_
  refine G_isub (pc := 48) hC dJ2_add_3_48 ?_
  refine G_copyQ (pc := 49) hJ hC q670 q350 q349 q97 (st_c cat_e (Nat.le_of_ble_eq_true rfl)) rfl rfl dJ2_add_3_49 hw (fun M1 hw => ?_)
  refine G_aload (pc := 52) (i := 4) hC dJ2_add_3_52 rfl ?_
  refine G_iload_n (pc := 54) (i := 1) hC dJ2_add_3_54 rfl rfl ?_
  refine G_aload_n (pc := 55) (i := 2) hC dJ2_add_3_55 rfl rfl ?_
  refine G_aastO (pc := 56) hJ hC dJ2_add_3_56 hw (fun M2 hw => ?_)
  refine G_aload_n (pc := 57) (i := 0) hC dJ2_add_3_57 rfl rfl ?_
  refine G_iload_n (pc := 58) (i := 3) hC dJ2_add_3_58 rfl rfl ?_
  refine G_iconst (pc := 59) (v := 1) hC dJ2_add_3_59 (by decide) ?_
  refine G_iadd (pc := 60) hC dJ2_add_3_60 ?_
  refine G_put (pc := 61) (ci := 21) (C := RJ2) (T := TJ2) (N := 3) (f := 2) tyJ2 hC rfl in_J2 tyJ2_ok nmJ2 (Nat.le_of_ble_eq_true rfl) q177 (fun _ h => h) rfl rfl rfl dJ2_add_3_61 hw (fun M3 hw => ?_)
  exact G_ret (pc := 64) hC hQ dJ2_add_3_64 hw
theorem m_J2_add_3 {l : Launch} {g : gT} {F : Nat} {a0 : Nat} {p1 : Int32} {p2 : Option Nat} {M : hM} {Q : hM → Prop} (hJ : JK l g) (hw : w_J2_add_3 g F a0 p1 p2 M Q) : MG l g yJ2_add_3 (ws_ yJ2_add_3 cJ2_add_3 5 none) 5 127 [va_rf (some a0), .int p1, va_rf p2] M (PU Q) := by
  refine MG_of hJ.2.1 (by decide) (cat_r (cat_i (cat_r cat_e))) (Nat.le_of_ble_eq_true rfl) (fun k hl hg hin hQ hC => ?_)
  subst hl hg
  show GW k 5 M 0 [some (va_rf (some a0)), some (.int p1), some (va_rf p2), none, none] []
  refine G_aload_n (pc := 0) (i := 0) hC dJ2_add_3_0 rfl rfl ?_
  refine G_iload_n (pc := 1) (i := 1) hC dJ2_add_3_1 rfl rfl ?_
  obtain ⟨hb, hw⟩ := hw
  refine G_callV (pc := 2) (n := 1) (C := "java/util/ArrayList") (b := a0) (As := [.int p1]) (rest := []) hC (m_J2_rangeCheckForAdd hJ hw) (lw_V q374 q376 qs3 q87 q377) hdK_J2_rangeCheckForAdd (by decide) (rcv (C := RJ2) (T := TJ2) (N := 3) hC hb rfl) rfl rfl (st_c cat_e (Nat.le_of_ble_eq_true rfl)) dJ2_add_3_2 (kU fun M1 hw => ?_)
  refine G_aload_n (pc := 5) (i := 0) hC dJ2_add_3_5 rfl rfl ?_
  refine G_dup (pc := 6) hC dJ2_add_3_6 (rf_cat _) ?_
  refine G_getI (pc := 7) (ci := 21) (C := RJ2) (T := TJ2) (N := 3) (f := 0) hC rfl in_J2 (Nat.le_of_ble_eq_true rfl) q183 (fun x h => u_same (hC.ts _ q180) x h) dJ2_add_3_7 hw (fun x2 hw => ?_)
  refine G_iconst (pc := 10) (v := 1) hC dJ2_add_3_10 (by decide) ?_
  refine G_iadd (pc := 11) hC dJ2_add_3_11 ?_
  refine G_put (pc := 12) (ci := 21) (C := RJ2) (T := TJ2) (N := 3) (f := 0) tyJ2 hC rfl in_J2 tyJ2_ok nmJ2 (Nat.le_of_ble_eq_true rfl) q183 (fun x h => u_same (hC.ts _ q180) x h) rfl rfl rfl dJ2_add_3_12 hw (fun M3 hw => ?_)
  refine G_aload_n (pc := 15) (i := 0) hC dJ2_add_3_15 rfl rfl ?_
  refine G_getI (pc := 16) (ci := 21) (C := RJ2) (T := TJ2) (N := 3) (f := 2) hC rfl in_J2 (Nat.le_of_ble_eq_true rfl) q177 (fun _ h => h) dJ2_add_3_16 hw (fun x4 hw => ?_)
  refine G_dup (pc := 19) hC dJ2_add_3_19 rfl ?_
  refine G_istore_n (pc := 20) (i := 3) (lw := [some (va_rf (some a0)), some (.int p1), some (va_rf p2), some (.int x4), none]) hC dJ2_add_3_20 rfl (Nat.le_of_ble_eq_true rfl) rfl ?_
  refine G_aload_n (pc := 21) (i := 0) hC dJ2_add_3_21 rfl rfl ?_
  refine G_getF (pc := 22) (ci := 21) (C := RJ2) (T := TJ2) (N := 3) (f := 1) hC rfl in_J2 (Nat.le_of_ble_eq_true rfl) q174 (fun _ h => h) dJ2_add_3_22 hw (fun x5 hw => ?_)
  refine G_dup (pc := 25) hC dJ2_add_3_25 (rf_cat _) ?_
  refine G_astore (pc := 26) (i := 4) (lw := [some (va_rf (some a0)), some (.int p1), some (va_rf p2), some (.int x4), some (va_rf x5)]) hC dJ2_add_3_26 (Nat.le_of_ble_eq_true rfl) rfl ?_
  refine G_alenK (pc := 28) hJ hC dJ2_add_3_28 hw (fun x6 hw => ?_)
  refine G_icmp_ne (pc := 29) (tgt := 38) hC dJ2_add_3_29 (by decide) (fun hc => ?_) (fun hc => ?_)
  · replace hw := hw.1 hc
    exact g_J2_add_3_38 hJ hC hQ hin  x4 x5 M3 hw
  · replace hw := hw.2 hc
    refine G_aload_n (pc := 32) (i := 0) hC dJ2_add_3_32 rfl rfl ?_
    obtain ⟨hb, hw⟩ := hw
    refine G_callV (pc := 33) (n := 0) (C := "java/util/ArrayList") (b := a0) (As := []) (rest := []) hC (m_J2_grow hJ hw) (lw_V q269 q271 qs1 q87 q272) hdK_J2_grow (by decide) (rcv (C := RJ2) (T := TJ2) (N := 3) hC hb rfl) rfl rfl (st_c cat_e (Nat.le_of_ble_eq_true rfl)) dJ2_add_3_33 (kRf fun x8 M7 hw => ?_)
    refine G_astore (pc := 36) (i := 4) (lw := [some (va_rf (some a0)), some (.int p1), some (va_rf p2), some (.int x4), some (va_rf x8)]) hC dJ2_add_3_36 (Nat.le_of_ble_eq_true rfl) rfl ?_
    exact g_J2_add_3_38 hJ hC hQ hin  x4 x8 M7 hw
def w_J2_fastRemove_34 (g : gT) (F : Nat) (a0 : Nat) (p1 : Option Nat) (p2 : Int32) (Q : hM → Prop) (v3 : Int32) (M : hM) : Prop :=
  pV M (some a0) 21 2 (.int v3) fun M1 => sR g M1 p1 v3 none fun M2 => Q M2
def w_J2_fastRemove (g : gT) (F : Nat) (a0 : Nat) (p1 : Option Nat) (p2 : Int32) (M : hM) (Q : hM → Prop) : Prop :=
  gI M (some a0) 21 0 fun x1 => pV M (some a0) 21 0 (.int (x1 + (1 : Int32))) fun M2 => gI M2 (some a0) 21 2 fun x3 => (((x3 - (1 : Int32)) ≤ p2 → w_J2_fastRemove_34 g F a0 p1 p2 Q (x3 - (1 : Int32)) M2) ∧ (¬ ((x3 - (1 : Int32)) ≤ p2) → cQ g M2 p1 (p2 + (1 : Int32)) p1 p2 ((x3 - (1 : Int32)) - p2) fun M4 => w_J2_fastRemove_34 g F a0 p1 p2 Q (x3 - (1 : Int32)) M4))
theorem g_J2_fastRemove_34 {k : kT} {F : Nat} {a0 : Nat} {p1 : Option Nat} {p2 : Int32} {Q : hM → Prop} (hJ : JK (kl k) (kg k)) (hC : CX k 4 cJ2_fastRemove RJ2 none 1 40) (hQ : isQ k (PU Q)) (hin : (kt k).name = "fastRemove") : ∀ (v3 : Int32) (M : hM), w_J2_fastRemove_34 (kg k) F a0 p1 p2 Q v3 M → GW k 4 M 34 [some (va_rf (some a0)), some (va_rf p1), some (.int p2), some (.int v3)] [] := by
  intro v3 M hw
  refine G_aload_n (pc := 34) (i := 1) hC dJ2_fastRemove_34 rfl rfl ?_
  refine G_aload_n (pc := 35) (i := 0) hC dJ2_fastRemove_35 rfl rfl ?_
  refine G_iload_n (pc := 36) (i := 3) hC dJ2_fastRemove_36 rfl rfl ?_
  refine G_dup_x1 (pc := 37) hC dJ2_fastRemove_37 rfl (rf_cat _) ?_
  refine G_put (pc := 38) (ci := 21) (C := RJ2) (T := TJ2) (N := 3) (f := 2) tyJ2 hC rfl in_J2 tyJ2_ok nmJ2 (Nat.le_of_ble_eq_true rfl) q177 (fun _ h => h) rfl rfl rfl dJ2_fastRemove_38 hw (fun M1 hw => ?_)
  refine G_null (pc := 41) hC dJ2_fastRemove_41 ?_
  refine G_aastO (pc := 42) hJ hC dJ2_fastRemove_42 hw (fun M2 hw => ?_)
  exact G_ret (pc := 43) hC hQ dJ2_fastRemove_43 hw
theorem m_J2_fastRemove {l : Launch} {g : gT} {F : Nat} {a0 : Nat} {p1 : Option Nat} {p2 : Int32} {M : hM} {Q : hM → Prop} (hJ : JK l g) (hw : w_J2_fastRemove g F a0 p1 p2 M Q) : MG l g yJ2_fastRemove (ws_ yJ2_fastRemove cJ2_fastRemove 4 none) 1 40 [va_rf (some a0), va_rf p1, .int p2] M (PU Q) := by
  refine MG_of hJ.2.1 (by decide) (cat_r (cat_r (cat_i cat_e))) (Nat.le_of_ble_eq_true rfl) (fun k hl hg hin hQ hC => ?_)
  subst hl hg
  show GW k 4 M 0 [some (va_rf (some a0)), some (va_rf p1), some (.int p2), none] []
  refine G_aload_n (pc := 0) (i := 0) hC dJ2_fastRemove_0 rfl rfl ?_
  refine G_dup (pc := 1) hC dJ2_fastRemove_1 (rf_cat _) ?_
  refine G_getI (pc := 2) (ci := 21) (C := RJ2) (T := TJ2) (N := 3) (f := 0) hC rfl in_J2 (Nat.le_of_ble_eq_true rfl) q183 (fun x h => u_same (hC.ts _ q180) x h) dJ2_fastRemove_2 hw (fun x1 hw => ?_)
  refine G_iconst (pc := 5) (v := 1) hC dJ2_fastRemove_5 (by decide) ?_
  refine G_iadd (pc := 6) hC dJ2_fastRemove_6 ?_
  refine G_put (pc := 7) (ci := 21) (C := RJ2) (T := TJ2) (N := 3) (f := 0) tyJ2 hC rfl in_J2 tyJ2_ok nmJ2 (Nat.le_of_ble_eq_true rfl) q183 (fun x h => u_same (hC.ts _ q180) x h) rfl rfl rfl dJ2_fastRemove_7 hw (fun M2 hw => ?_)
  refine G_aload_n (pc := 10) (i := 0) hC dJ2_fastRemove_10 rfl rfl ?_
  refine G_getI (pc := 11) (ci := 21) (C := RJ2) (T := TJ2) (N := 3) (f := 2) hC rfl in_J2 (Nat.le_of_ble_eq_true rfl) q177 (fun _ h => h) dJ2_fastRemove_11 hw (fun x3 hw => ?_)
  refine G_iconst (pc := 14) (v := 1) hC dJ2_fastRemove_14 (by decide) ?_
  refine G_isub (pc := 15) hC dJ2_fastRemove_15 ?_
  refine G_dup (pc := 16) hC dJ2_fastRemove_16 rfl ?_
  refine G_istore_n (pc := 17) (i := 3) (lw := [some (va_rf (some a0)), some (va_rf p1), some (.int p2), some (.int (x3 - (1 : Int32)))]) hC dJ2_fastRemove_17 rfl (Nat.le_of_ble_eq_true rfl) rfl ?_
  refine G_iload_n (pc := 18) (i := 2) hC dJ2_fastRemove_18 rfl rfl ?_
  refine G_icmp_le (pc := 19) (tgt := 34) hC dJ2_fastRemove_19 (by decide) (fun hc => ?_) (fun hc => ?_)
  · replace hw := hw.1 hc
    exact g_J2_fastRemove_34 hJ hC hQ hin  (x3 - (1 : Int32)) M2 hw
  · replace hw := hw.2 hc
    refine G_aload_n (pc := 22) (i := 1) hC dJ2_fastRemove_22 rfl rfl ?_
    refine G_iload_n (pc := 23) (i := 2) hC dJ2_fastRemove_23 rfl rfl ?_
    refine G_iconst (pc := 24) (v := 1) hC dJ2_fastRemove_24 (by decide) ?_
    refine G_iadd (pc := 25) hC dJ2_fastRemove_25 ?_
    refine G_aload_n (pc := 26) (i := 1) hC dJ2_fastRemove_26 rfl rfl ?_
    refine G_iload_n (pc := 27) (i := 2) hC dJ2_fastRemove_27 rfl rfl ?_
    refine G_iload_n (pc := 28) (i := 3) hC dJ2_fastRemove_28 rfl rfl ?_
    refine G_iload_n (pc := 29) (i := 2) hC dJ2_fastRemove_29 rfl rfl ?_
    refine G_isub (pc := 30) hC dJ2_fastRemove_30 ?_
    refine G_copyQ (pc := 31) hJ hC q670 q350 q349 q97 (st_c cat_e (Nat.le_of_ble_eq_true rfl)) rfl rfl dJ2_fastRemove_31 hw (fun M4 hw => ?_)
    exact g_J2_fastRemove_34 hJ hC hQ hin  (x3 - (1 : Int32)) M4 hw
theorem hdK_J2_fastRemove : yJ2_fastRemove.cls = "java/util/ArrayList" ∧ yJ2_fastRemove.cls ≠ "java/lang/invoke/MethodHandle" ∧ yJ2_fastRemove.cls ≠ "java/lang/invoke/VarHandle" ∧ (parseMethodDescriptor yJ2_fastRemove.desc).map (fun d => d.parameters.length) = some 2 := by decide +kernel
def w_J2_remove (g : gT) (F : Nat) (a0 : Nat) (p1 : Int32) (M : hM) (Q : Option Nat → hM → Prop) : Prop :=
  gI M (some a0) 21 2 fun x1 => w_J21_checkIndex g F p1 x1 M (fun x3 M2 => gF M2 (some a0) 21 1 fun x4 => aR M2 x4 p1 fun x5 => (isC M2 a0 21 ∧ w_J2_fastRemove g F a0 x4 p1 M2 (fun M6 => Q x5 M6)))
theorem m_J2_remove {l : Launch} {g : gT} {F : Nat} {a0 : Nat} {p1 : Int32} {M : hM} {Q : Option Nat → hM → Prop} (hJ : JK l g) (hw : w_J2_remove g F a0 p1 M Q) : MG l g yJ2_remove (ws_ yJ2_remove cJ2_remove 4 (some (.object "java/lang/Object"))) 3 63 [va_rf (some a0), .int p1] M (PR Q) := by
  refine MG_of hJ.2.1 (by decide) (cat_r (cat_i cat_e)) (Nat.le_of_ble_eq_true rfl) (fun k hl hg hin hQ hC => ?_)
  subst hl hg
  show GW k 4 M 0 [some (va_rf (some a0)), some (.int p1), none, none] []
  refine G_iload_n (pc := 0) (i := 1) hC dJ2_remove_0 rfl rfl ?_
  refine G_aload_n (pc := 1) (i := 0) hC dJ2_remove_1 rfl rfl ?_
  refine G_getI (pc := 2) (ci := 21) (C := RJ2) (T := TJ2) (N := 3) (f := 2) hC rfl in_J2 (Nat.le_of_ble_eq_true rfl) q177 (fun _ h => h) dJ2_remove_2 hw (fun x1 hw => ?_)
  refine G_callS (pc := 5) (n := 2) (As := [.int p1, .int x1]) (rest := []) hC (m_J21_checkIndex hJ hw) (lw_S q961 q962 q109 q963) hdK_J21_checkIndex.2 (by decide) rfl rfl (st_c cat_e (Nat.le_of_ble_eq_true rfl)) dJ2_remove_5 (kI fun x3 M2 hw => ?_)
  refine G_pop (pc := 8) hC dJ2_remove_8 rfl ?_
  refine G_aload_n (pc := 9) (i := 0) hC dJ2_remove_9 rfl rfl ?_
  refine G_getF (pc := 10) (ci := 21) (C := RJ2) (T := TJ2) (N := 3) (f := 1) hC rfl in_J2 (Nat.le_of_ble_eq_true rfl) q174 (fun _ h => h) dJ2_remove_10 hw (fun x4 hw => ?_)
  refine G_astore_n (pc := 13) (i := 2) (lw := [some (va_rf (some a0)), some (.int p1), some (va_rf x4), none]) hC dJ2_remove_13 rfl (Nat.le_of_ble_eq_true rfl) rfl ?_
  refine G_aload_n (pc := 14) (i := 2) hC dJ2_remove_14 rfl rfl ?_
  refine G_iload_n (pc := 15) (i := 1) hC dJ2_remove_15 rfl rfl ?_
  refine G_aald (pc := 16) hC dJ2_remove_16 hw (fun x5 hw => ?_)
  refine G_astore_n (pc := 17) (i := 3) (lw := [some (va_rf (some a0)), some (.int p1), some (va_rf x4), some (va_rf x5)]) hC dJ2_remove_17 rfl (Nat.le_of_ble_eq_true rfl) rfl ?_
  refine G_aload_n (pc := 18) (i := 0) hC dJ2_remove_18 rfl rfl ?_
  refine G_aload_n (pc := 19) (i := 2) hC dJ2_remove_19 rfl rfl ?_
  refine G_iload_n (pc := 20) (i := 1) hC dJ2_remove_20 rfl rfl ?_
  obtain ⟨hb, hw⟩ := hw
  refine G_callV (pc := 21) (n := 2) (C := "java/util/ArrayList") (b := a0) (As := [va_rf x4, .int p1]) (rest := []) hC (m_J2_fastRemove hJ hw) (lw_V q1400 q1402 qs14 q87 q1403) hdK_J2_fastRemove (by decide) (rcv (C := RJ2) (T := TJ2) (N := 3) hC hb rfl) rfl rfl (st_c cat_e (Nat.le_of_ble_eq_true rfl)) dJ2_remove_21 (kU fun M6 hw => ?_)
  refine G_aload_n (pc := 24) (i := 3) hC dJ2_remove_24 rfl rfl ?_
  exact G_aret (pc := 25) hC (Or.inl ⟨_, rfl⟩) hQ dJ2_remove_25 hw
def w_J2_set (g : gT) (F : Nat) (a0 : Nat) (p1 : Int32) (p2 : Option Nat) (M : hM) (Q : Option Nat → hM → Prop) : Prop :=
  gI M (some a0) 21 2 fun x1 => w_J21_checkIndex g F p1 x1 M (fun x3 M2 => (isC M2 a0 21 ∧ w_J2_elementData g F a0 p1 M2 (fun x5 M4 => gF M4 (some a0) 21 1 fun x6 => sR g M4 x6 p1 p2 fun M7 => Q x5 M7)))
theorem m_J2_set {l : Launch} {g : gT} {F : Nat} {a0 : Nat} {p1 : Int32} {p2 : Option Nat} {M : hM} {Q : Option Nat → hM → Prop} (hJ : JK l g) (hw : w_J2_set g F a0 p1 p2 M Q) : MG l g yJ2_set (ws_ yJ2_set cJ2_set 4 (some (.object "java/lang/Object"))) 3 55 [va_rf (some a0), .int p1, va_rf p2] M (PR Q) := by
  refine MG_of hJ.2.1 (by decide) (cat_r (cat_i (cat_r cat_e))) (Nat.le_of_ble_eq_true rfl) (fun k hl hg hin hQ hC => ?_)
  subst hl hg
  show GW k 4 M 0 [some (va_rf (some a0)), some (.int p1), some (va_rf p2), none] []
  refine G_iload_n (pc := 0) (i := 1) hC dJ2_set_0 rfl rfl ?_
  refine G_aload_n (pc := 1) (i := 0) hC dJ2_set_1 rfl rfl ?_
  refine G_getI (pc := 2) (ci := 21) (C := RJ2) (T := TJ2) (N := 3) (f := 2) hC rfl in_J2 (Nat.le_of_ble_eq_true rfl) q177 (fun _ h => h) dJ2_set_2 hw (fun x1 hw => ?_)
  refine G_callS (pc := 5) (n := 2) (As := [.int p1, .int x1]) (rest := []) hC (m_J21_checkIndex hJ hw) (lw_S q961 q962 q109 q963) hdK_J21_checkIndex.2 (by decide) rfl rfl (st_c cat_e (Nat.le_of_ble_eq_true rfl)) dJ2_set_5 (kI fun x3 M2 hw => ?_)
  refine G_pop (pc := 8) hC dJ2_set_8 rfl ?_
  refine G_aload_n (pc := 9) (i := 0) hC dJ2_set_9 rfl rfl ?_
  refine G_iload_n (pc := 10) (i := 1) hC dJ2_set_10 rfl rfl ?_
  obtain ⟨hb, hw⟩ := hw
  refine G_callV (pc := 11) (n := 1) (C := "java/util/ArrayList") (b := a0) (As := [.int p1]) (rest := []) hC (m_J2_elementData hJ hw) (lw_V q967 q968 q969 q87 q970) hdK_J2_elementData (by decide) (rcv (C := RJ2) (T := TJ2) (N := 3) hC hb rfl) rfl rfl (st_c cat_e (Nat.le_of_ble_eq_true rfl)) dJ2_set_11 (kRf fun x5 M4 hw => ?_)
  refine G_astore_n (pc := 14) (i := 3) (lw := [some (va_rf (some a0)), some (.int p1), some (va_rf p2), some (va_rf x5)]) hC dJ2_set_14 rfl (Nat.le_of_ble_eq_true rfl) rfl ?_
  refine G_aload_n (pc := 15) (i := 0) hC dJ2_set_15 rfl rfl ?_
  refine G_getF (pc := 16) (ci := 21) (C := RJ2) (T := TJ2) (N := 3) (f := 1) hC rfl in_J2 (Nat.le_of_ble_eq_true rfl) q174 (fun _ h => h) dJ2_set_16 hw (fun x6 hw => ?_)
  refine G_iload_n (pc := 19) (i := 1) hC dJ2_set_19 rfl rfl ?_
  refine G_aload_n (pc := 20) (i := 2) hC dJ2_set_20 rfl rfl ?_
  refine G_aastO (pc := 21) hJ hC dJ2_set_21 hw (fun M7 hw => ?_)
  refine G_aload_n (pc := 22) (i := 3) hC dJ2_set_22 rfl rfl ?_
  exact G_aret (pc := 23) hC (Or.inl ⟨_, rfl⟩) hQ dJ2_set_23 hw
def w_J2_isEmpty_12 (g : gT) (F : Nat) (a0 : Nat) (Q : Int32 → hM → Prop) (s0 : Int32) (M : hM) : Prop :=
  ((s0 = 0 ∨ s0 = 1) ∧ Q s0 M)
def w_J2_isEmpty (g : gT) (F : Nat) (a0 : Nat) (M : hM) (Q : Int32 → hM → Prop) : Prop :=
  gI M (some a0) 21 2 fun x1 => ((¬ x1 = 0 → w_J2_isEmpty_12 g F a0 Q (0 : Int32) M) ∧ (x1 = 0 → w_J2_isEmpty_12 g F a0 Q (1 : Int32) M))
theorem g_J2_isEmpty_12 {k : kT} {F : Nat} {a0 : Nat} {Q : Int32 → hM → Prop} (hJ : JK (kl k) (kg k)) (hC : CX k 1 cJ2_isEmpty RJ2 (some .boolean) 1 12) (hQ : isQ k (PI Q)) (hin : (kt k).name = "isEmpty") : ∀ (s0 : Int32) (M : hM), w_J2_isEmpty_12 (kg k) F a0 Q s0 M → GW k 1 M 12 [some (va_rf (some a0))] [.int s0] := by
  intro s0 M hw
  obtain ⟨hz, hw⟩ := hw
  exact G_iret (pc := 12) hC (nz_n hz) hQ dJ2_isEmpty_12 hw
theorem m_J2_isEmpty {l : Launch} {g : gT} {F : Nat} {a0 : Nat} {M : hM} {Q : Int32 → hM → Prop} (hJ : JK l g) (hw : w_J2_isEmpty g F a0 M Q) : MG l g yJ2_isEmpty (ws_ yJ2_isEmpty cJ2_isEmpty 1 (some .boolean)) 1 12 [va_rf (some a0)] M (PI Q) := by
  refine MG_of hJ.2.1 (by decide) (cat_r cat_e) (Nat.le_of_ble_eq_true rfl) (fun k hl hg hin hQ hC => ?_)
  subst hl hg
  show GW k 1 M 0 [some (va_rf (some a0))] []
  refine G_aload_n (pc := 0) (i := 0) hC dJ2_isEmpty_0 rfl rfl ?_
  refine G_getI (pc := 1) (ci := 21) (C := RJ2) (T := TJ2) (N := 3) (f := 2) hC rfl in_J2 (Nat.le_of_ble_eq_true rfl) q177 (fun _ h => h) dJ2_isEmpty_1 hw (fun x1 hw => ?_)
  refine G_if_ne (pc := 4) (tgt := 11) hC dJ2_isEmpty_4 (by decide) (fun hc => ?_) (fun hc => ?_)
  · replace hw := hw.1 hc
    refine G_iconst (pc := 11) (v := 0) hC dJ2_isEmpty_11 (by decide) ?_
    exact g_J2_isEmpty_12 hJ hC hQ hin  (0 : Int32) M hw
  · replace hw := hw.2 hc
    refine G_iconst (pc := 7) (v := 1) hC dJ2_isEmpty_7 (by decide) ?_
    refine G_goto (pc := 8) (tgt := 12) hC dJ2_isEmpty_8 (by decide) ?_
    exact g_J2_isEmpty_12 hJ hC hQ hin  (1 : Int32) M hw
def w_J2_clear_27 (g : gT) (F : Nat) (a0 : Nat) (Q : hM → Prop) : Nat → (Option Nat) → Int32 → Int32 → hM → Prop
  | 0, _, _, _, _ => False
  | n + 1, v1, v2, v3, M => ((v2 ≤ v3 → Q M) ∧ (¬ (v2 ≤ v3) → sR g M v1 v3 none fun M1 => w_J2_clear_27 g F a0 Q n v1 v2 (v3 + (1 : Int32)) M1))
def w_J2_clear (g : gT) (F : Nat) (a0 : Nat) (M : hM) (Q : hM → Prop) : Prop :=
  gI M (some a0) 21 0 fun x1 => pV M (some a0) 21 0 (.int (x1 + (1 : Int32))) fun M2 => gF M2 (some a0) 21 1 fun x3 => gI M2 (some a0) 21 2 fun x4 => pV M2 (some a0) 21 2 (.int (0 : Int32)) fun M5 => w_J2_clear_27 g F a0 Q F x3 x4 (0 : Int32) M5
theorem g_J2_clear_27 {k : kT} {F : Nat} {a0 : Nat} {Q : hM → Prop} (hJ : JK (kl k) (kg k)) (hC : CX k 4 cJ2_clear RJ2 none 1 12) (hQ : isQ k (PU Q)) (hin : (kt k).name = "clear") : ∀ (n : Nat) (v1 : Option Nat) (v2 : Int32) (v3 : Int32) (M : hM), w_J2_clear_27 (kg k) F a0 Q n v1 v2 v3 M → GW k 4 M 27 [some (va_rf (some a0)), some (va_rf v1), some (.int v2), some (.int v3)] [] := by
  intro n
  induction n with
  | zero =>
    intro v1 v2 v3 M hw
    exact hw.elim
  | succ n ih =>
    intro v1 v2 v3 M hw
    refine G_iload_n (pc := 27) (i := 3) hC dJ2_clear_27 rfl rfl ?_
    refine G_iload_n (pc := 28) (i := 2) hC dJ2_clear_28 rfl rfl ?_
    refine G_icmp_ge (pc := 29) (tgt := 42) hC dJ2_clear_29 (by decide) (fun hc => ?_) (fun hc => ?_)
    · replace hw := hw.1 hc
      exact G_ret (pc := 42) hC hQ dJ2_clear_42 hw
    · replace hw := hw.2 hc
      refine G_aload_n (pc := 32) (i := 1) hC dJ2_clear_32 rfl rfl ?_
      refine G_iload_n (pc := 33) (i := 3) hC dJ2_clear_33 rfl rfl ?_
      refine G_null (pc := 34) hC dJ2_clear_34 ?_
      refine G_aastO (pc := 35) hJ hC dJ2_clear_35 hw (fun M1 hw => ?_)
      refine G_iinc (pc := 36) (i := 3) (v := (v3 + (1 : Int32))) (lw := [some (va_rf (some a0)), some (va_rf v1), some (.int v2), some (.int (v3 + (1 : Int32)))]) hC dJ2_clear_36 rfl (Nat.le_of_ble_eq_true rfl) rfl rfl ?_
      refine G_goto (pc := 39) (tgt := 27) hC dJ2_clear_39 (by decide) ?_
      exact ih v1 v2 (v3 + (1 : Int32)) M1 hw
theorem m_J2_clear {l : Launch} {g : gT} {F : Nat} {a0 : Nat} {M : hM} {Q : hM → Prop} (hJ : JK l g) (hw : w_J2_clear g F a0 M Q) : MG l g yJ2_clear (ws_ yJ2_clear cJ2_clear 4 none) 1 12 [va_rf (some a0)] M (PU Q) := by
  refine MG_of hJ.2.1 (by decide) (cat_r cat_e) (Nat.le_of_ble_eq_true rfl) (fun k hl hg hin hQ hC => ?_)
  subst hl hg
  show GW k 4 M 0 [some (va_rf (some a0)), none, none, none] []
  refine G_aload_n (pc := 0) (i := 0) hC dJ2_clear_0 rfl rfl ?_
  refine G_dup (pc := 1) hC dJ2_clear_1 (rf_cat _) ?_
  refine G_getI (pc := 2) (ci := 21) (C := RJ2) (T := TJ2) (N := 3) (f := 0) hC rfl in_J2 (Nat.le_of_ble_eq_true rfl) q183 (fun x h => u_same (hC.ts _ q180) x h) dJ2_clear_2 hw (fun x1 hw => ?_)
  refine G_iconst (pc := 5) (v := 1) hC dJ2_clear_5 (by decide) ?_
  refine G_iadd (pc := 6) hC dJ2_clear_6 ?_
  refine G_put (pc := 7) (ci := 21) (C := RJ2) (T := TJ2) (N := 3) (f := 0) tyJ2 hC rfl in_J2 tyJ2_ok nmJ2 (Nat.le_of_ble_eq_true rfl) q183 (fun x h => u_same (hC.ts _ q180) x h) rfl rfl rfl dJ2_clear_7 hw (fun M2 hw => ?_)
  refine G_aload_n (pc := 10) (i := 0) hC dJ2_clear_10 rfl rfl ?_
  refine G_getF (pc := 11) (ci := 21) (C := RJ2) (T := TJ2) (N := 3) (f := 1) hC rfl in_J2 (Nat.le_of_ble_eq_true rfl) q174 (fun _ h => h) dJ2_clear_11 hw (fun x3 hw => ?_)
  refine G_astore_n (pc := 14) (i := 1) (lw := [some (va_rf (some a0)), some (va_rf x3), none, none]) hC dJ2_clear_14 rfl (Nat.le_of_ble_eq_true rfl) rfl ?_
  refine G_aload_n (pc := 15) (i := 0) hC dJ2_clear_15 rfl rfl ?_
  refine G_getI (pc := 16) (ci := 21) (C := RJ2) (T := TJ2) (N := 3) (f := 2) hC rfl in_J2 (Nat.le_of_ble_eq_true rfl) q177 (fun _ h => h) dJ2_clear_16 hw (fun x4 hw => ?_)
  refine G_istore_n (pc := 19) (i := 2) (lw := [some (va_rf (some a0)), some (va_rf x3), some (.int x4), none]) hC dJ2_clear_19 rfl (Nat.le_of_ble_eq_true rfl) rfl ?_
  refine G_aload_n (pc := 20) (i := 0) hC dJ2_clear_20 rfl rfl ?_
  refine G_iconst (pc := 21) (v := 0) hC dJ2_clear_21 (by decide) ?_
  refine G_dup_x1 (pc := 22) hC dJ2_clear_22 rfl (rf_cat _) ?_
  refine G_put (pc := 23) (ci := 21) (C := RJ2) (T := TJ2) (N := 3) (f := 2) tyJ2 hC rfl in_J2 tyJ2_ok nmJ2 (Nat.le_of_ble_eq_true rfl) q177 (fun _ h => h) rfl rfl rfl dJ2_clear_23 hw (fun M5 hw => ?_)
  refine G_istore_n (pc := 26) (i := 3) (lw := [some (va_rf (some a0)), some (va_rf x3), some (.int x4), some (.int (0 : Int32))]) hC dJ2_clear_26 rfl (Nat.le_of_ble_eq_true rfl) rfl ?_
  exact g_J2_clear_27 hJ hC hQ hin _ x3 x4 (0 : Int32) M5 hw
def w_J2_addAll_v21_56 (g : gT) (F : Nat) (a0 : Nat) (p1 : Option Nat) (Q : Int32 → hM → Prop) (v2 : Option Nat) (v3 : Int32) (v4 : Option Nat) (v5 : Int32) (M : hM) : Prop :=
  cQ g M v2 (0 : Int32) v4 v5 v3 fun M1 => pV M1 (some a0) 21 2 (.int (v5 + v3)) fun M2 => Q (1 : Int32) M2
def w_J2_addAll_v21 (g : gT) (F : Nat) (a0 : Nat) (p1 : Option Nat) (M : hM) (Q : Int32 → hM → Prop) : Prop :=
  gThis M p1 21 fun b2 => w_J2_toArray g F b2  M (fun x3 M1 => gI M1 (some a0) 21 0 fun x4 => pV M1 (some a0) 21 0 (.int (x4 + (1 : Int32))) fun M5 => aLenK g M5 x3 fun x6 => ((¬ x6 = 0 → gF M5 (some a0) 21 1 fun x7 => aLenK g M5 x7 fun x8 => gI M5 (some a0) 21 2 fun x9 => ((x6 ≤ (x8 - x9) → w_J2_addAll_v21_56 g F a0 p1 Q x3 x6 x7 x9 M5) ∧ (¬ (x6 ≤ (x8 - x9)) → (isC M5 a0 21 ∧ w_J2_grow_2 g F a0 (x9 + x6) M5 (fun x11 M10 => w_J2_addAll_v21_56 g F a0 p1 Q x3 x6 x11 x9 M10))))) ∧ (x6 = 0 → Q (0 : Int32) M5)))
theorem g_J2_addAll_v21_56 {k : kT} {F : Nat} {a0 : Nat} {p1 : Option Nat} {Q : Int32 → hM → Prop} (hJ : JK (kl k) (kg k)) (hC : CX k 6 cJ2_addAll RJ2 (some .boolean) 4 107) (hQ : isQ k (PI Q)) (hin : (kt k).name = "addAll") : ∀ (v2 : Option Nat) (v3 : Int32) (v4 : Option Nat) (v5 : Int32) (M : hM), w_J2_addAll_v21_56 (kg k) F a0 p1 Q v2 v3 v4 v5 M → GW k 6 M 56 [some (va_rf (some a0)), some (va_rf p1), some (va_rf v2), some (.int v3), some (va_rf v4), some (.int v5)] [] := by
  intro v2 v3 v4 v5 M hw
  refine G_aload_n (pc := 56) (i := 2) hC dJ2_addAll_56 rfl rfl ?_
  refine G_iconst (pc := 57) (v := 0) hC dJ2_addAll_57 (by decide) ?_
  refine G_aload (pc := 58) (i := 4) hC dJ2_addAll_58 rfl ?_
  refine G_iload (pc := 60) (i := 5) hC dJ2_addAll_60 rfl ?_
  refine G_iload_n (pc := 62) (i := 3) hC dJ2_addAll_62 rfl rfl ?_
  refine G_copyQ (pc := 63) hJ hC q670 q350 q349 q97 (st_c cat_e (Nat.le_of_ble_eq_true rfl)) rfl rfl dJ2_addAll_63 hw (fun M1 hw => ?_)
  refine G_aload_n (pc := 66) (i := 0) hC dJ2_addAll_66 rfl rfl ?_
  refine G_iload (pc := 67) (i := 5) hC dJ2_addAll_67 rfl ?_
  refine G_iload_n (pc := 69) (i := 3) hC dJ2_addAll_69 rfl rfl ?_
  refine G_iadd (pc := 70) hC dJ2_addAll_70 ?_
  refine G_put (pc := 71) (ci := 21) (C := RJ2) (T := TJ2) (N := 3) (f := 2) tyJ2 hC rfl in_J2 tyJ2_ok nmJ2 (Nat.le_of_ble_eq_true rfl) q177 (fun _ h => h) rfl rfl rfl dJ2_addAll_71 hw (fun M2 hw => ?_)
  refine G_iconst (pc := 74) (v := 1) hC dJ2_addAll_74 (by decide) ?_
  exact G_iret (pc := 75) hC rfl hQ dJ2_addAll_75 hw
theorem m_J2_addAll_v21 {l : Launch} {g : gT} {F : Nat} {a0 : Nat} {p1 : Option Nat} {M : hM} {Q : Int32 → hM → Prop} (hJ : JK l g) (hw : w_J2_addAll_v21 g F a0 p1 M Q) : MG l g yJ2_addAll (ws_ yJ2_addAll cJ2_addAll 6 (some .boolean)) 4 107 [va_rf (some a0), va_rf p1] M (PI Q) := by
  refine MG_of hJ.2.1 (by decide) (cat_r (cat_r cat_e)) (Nat.le_of_ble_eq_true rfl) (fun k hl hg hin hQ hC => ?_)
  subst hl hg
  show GW k 6 M 0 [some (va_rf (some a0)), some (va_rf p1), none, none, none, none] []
  refine G_aload_n (pc := 0) (i := 1) hC dJ2_addAll_0 rfl rfl ?_
  obtain ⟨b2, rfl, hb, hw⟩ := gThis_e hw
  refine G_callF (pc := 1) (n := 0) (x := ⟨"java/util/Collection", "toArray", "()[Ljava/lang/Object;"⟩) (C := "java/util/ArrayList") (ci := 21) (T := TJ2) (N := 3) (b := b2) (As := []) (rest := []) hC (m_J2_toArray hJ hw) (lw_F q737 q756 q758 q87 q760) (nw_in q739 rfl) (nw_in q738 rfl) (nw_in q759 rfl) (nw_in q757 rfl) (nw_in q755 rfl) rfl (rcv (C := RJ2) (T := TJ2) (N := 3) hC hb rfl) (by decide +kernel) (by decide) rfl rfl (st_c cat_e (Nat.le_of_ble_eq_true rfl)) dJ2_addAll_1 (kRf fun x3 M1 hw => ?_)
  refine G_astore_n (pc := 6) (i := 2) (lw := [some (va_rf (some a0)), some (va_rf (some b2)), some (va_rf x3), none, none, none]) hC dJ2_addAll_6 rfl (Nat.le_of_ble_eq_true rfl) rfl ?_
  refine G_aload_n (pc := 7) (i := 0) hC dJ2_addAll_7 rfl rfl ?_
  refine G_dup (pc := 8) hC dJ2_addAll_8 (rf_cat _) ?_
  refine G_getI (pc := 9) (ci := 21) (C := RJ2) (T := TJ2) (N := 3) (f := 0) hC rfl in_J2 (Nat.le_of_ble_eq_true rfl) q183 (fun x h => u_same (hC.ts _ q180) x h) dJ2_addAll_9 hw (fun x4 hw => ?_)
  refine G_iconst (pc := 12) (v := 1) hC dJ2_addAll_12 (by decide) ?_
  refine G_iadd (pc := 13) hC dJ2_addAll_13 ?_
  refine G_put (pc := 14) (ci := 21) (C := RJ2) (T := TJ2) (N := 3) (f := 0) tyJ2 hC rfl in_J2 tyJ2_ok nmJ2 (Nat.le_of_ble_eq_true rfl) q183 (fun x h => u_same (hC.ts _ q180) x h) rfl rfl rfl dJ2_addAll_14 hw (fun M5 hw => ?_)
  refine G_aload_n (pc := 17) (i := 2) hC dJ2_addAll_17 rfl rfl ?_
  refine G_alenK (pc := 18) hJ hC dJ2_addAll_18 hw (fun x6 hw => ?_)
  refine G_istore_n (pc := 19) (i := 3) (lw := [some (va_rf (some a0)), some (va_rf (some b2)), some (va_rf x3), some (.int x6), none, none]) hC dJ2_addAll_19 rfl (Nat.le_of_ble_eq_true rfl) rfl ?_
  refine G_iload_n (pc := 20) (i := 3) hC dJ2_addAll_20 rfl rfl ?_
  refine G_if_ne (pc := 21) (tgt := 26) hC dJ2_addAll_21 (by decide) (fun hc => ?_) (fun hc => ?_)
  · replace hw := hw.1 hc
    refine G_iload_n (pc := 26) (i := 3) hC dJ2_addAll_26 rfl rfl ?_
    refine G_aload_n (pc := 27) (i := 0) hC dJ2_addAll_27 rfl rfl ?_
    refine G_getF (pc := 28) (ci := 21) (C := RJ2) (T := TJ2) (N := 3) (f := 1) hC rfl in_J2 (Nat.le_of_ble_eq_true rfl) q174 (fun _ h => h) dJ2_addAll_28 hw (fun x7 hw => ?_)
    refine G_dup (pc := 31) hC dJ2_addAll_31 (rf_cat _) ?_
    refine G_astore (pc := 32) (i := 4) (lw := [some (va_rf (some a0)), some (va_rf (some b2)), some (va_rf x3), some (.int x6), some (va_rf x7), none]) hC dJ2_addAll_32 (Nat.le_of_ble_eq_true rfl) rfl ?_
    refine G_alenK (pc := 34) hJ hC dJ2_addAll_34 hw (fun x8 hw => ?_)
    refine G_aload_n (pc := 35) (i := 0) hC dJ2_addAll_35 rfl rfl ?_
    refine G_getI (pc := 36) (ci := 21) (C := RJ2) (T := TJ2) (N := 3) (f := 2) hC rfl in_J2 (Nat.le_of_ble_eq_true rfl) q177 (fun _ h => h) dJ2_addAll_36 hw (fun x9 hw => ?_)
    refine G_dup (pc := 39) hC dJ2_addAll_39 rfl ?_
    refine G_istore (pc := 40) (i := 5) (lw := [some (va_rf (some a0)), some (va_rf (some b2)), some (va_rf x3), some (.int x6), some (va_rf x7), some (.int x9)]) hC dJ2_addAll_40 (Nat.le_of_ble_eq_true rfl) rfl ?_
    refine G_isub (pc := 42) hC dJ2_addAll_42 ?_
    refine G_icmp_le (pc := 43) (tgt := 56) hC dJ2_addAll_43 (by decide) (fun hc => ?_) (fun hc => ?_)
    · replace hw := hw.1 hc
      exact g_J2_addAll_v21_56 hJ hC hQ hin  x3 x6 x7 x9 M5 hw
    · replace hw := hw.2 hc
      refine G_aload_n (pc := 46) (i := 0) hC dJ2_addAll_46 rfl rfl ?_
      refine G_iload (pc := 47) (i := 5) hC dJ2_addAll_47 rfl ?_
      refine G_iload_n (pc := 49) (i := 3) hC dJ2_addAll_49 rfl rfl ?_
      refine G_iadd (pc := 50) hC dJ2_addAll_50 ?_
      obtain ⟨hb, hw⟩ := hw
      refine G_callV (pc := 51) (n := 1) (C := "java/util/ArrayList") (b := a0) (As := [.int (x9 + x6)]) (rest := []) hC (m_J2_grow_2 hJ hw) (lw_V q273 q275 qs2 q87 q276) hdK_J2_grow_2 (by decide) (rcv (C := RJ2) (T := TJ2) (N := 3) hC hb rfl) rfl rfl (st_c cat_e (Nat.le_of_ble_eq_true rfl)) dJ2_addAll_51 (kRf fun x11 M10 hw => ?_)
      refine G_astore (pc := 54) (i := 4) (lw := [some (va_rf (some a0)), some (va_rf (some b2)), some (va_rf x3), some (.int x6), some (va_rf x11), some (.int x9)]) hC dJ2_addAll_54 (Nat.le_of_ble_eq_true rfl) rfl ?_
      exact g_J2_addAll_v21_56 hJ hC hQ hin  x3 x6 x11 x9 M10 hw
  · replace hw := hw.2 hc
    refine G_iconst (pc := 24) (v := 0) hC dJ2_addAll_24 (by decide) ?_
    exact G_iret (pc := 25) hC rfl hQ dJ2_addAll_25 hw
def w_J26_hasNext (g : gT) (F : Nat) (a0 : Nat) (M : hM) (Q : Int32 → hM → Prop) : Prop :=
  gI M (some a0) 27 0 fun x1 => ((x1 = 0 ∨ x1 = 1) ∧ Q x1 M)
theorem m_J26_hasNext {l : Launch} {g : gT} {F : Nat} {a0 : Nat} {M : hM} {Q : Int32 → hM → Prop} (hJ : JK l g) (hw : w_J26_hasNext g F a0 M Q) : MG l g yJ26_hasNext (ws_ yJ26_hasNext cJ26_hasNext 1 (some .boolean)) 1 12 [va_rf (some a0)] M (PI Q) := by
  refine MG_of hJ.2.1 (by decide) (cat_r cat_e) (Nat.le_of_ble_eq_true rfl) (fun k hl hg hin hQ hC => ?_)
  subst hl hg
  show GW k 1 M 0 [some (va_rf (some a0))] []
  refine G_aload_n (pc := 0) (i := 0) hC dJ26_hasNext_0 rfl rfl ?_
  refine G_getI (pc := 1) (ci := 27) (C := RJ26) (T := TJ26) (N := 2) (f := 0) hC rfl in_J26 (Nat.le_of_ble_eq_true rfl) q840 (fun _ h => h) dJ26_hasNext_1 hw (fun x1 hw => ?_)
  obtain ⟨hz, hw⟩ := hw
  exact G_iret (pc := 4) hC (nz_n hz) hQ dJ26_hasNext_4 hw
def w_J0_finishToArray_65 (g : gT) (F : Nat) (p1 : Option Nat) (Q : Option Nat → hM → Prop) (s0 : Option Nat) (M : hM) : Prop :=
  Q s0 M
def w_J0_finishToArray_36 (g : gT) (F : Nat) (p1 : Option Nat) (Q : Option Nat → hM → Prop) (K5 : (Option Nat) → Int32 → Int32 → hM → Prop) (v0 : Option Nat) (v2 : Int32) (v3 : Int32) (M : hM) : Prop :=
  False
def w_J0_finishToArray_5 (g : gT) (F : Nat) (p1 : Option Nat) (Q : Option Nat → hM → Prop) : Nat → (Option Nat) → Int32 → Int32 → hM → Prop
  | 0, _, _, _, _ => False
  | n + 1, v0, v2, v3, M => False
def w_J0_finishToArray (g : gT) (F : Nat) (p0 : Option Nat) (p1 : Option Nat) (M : hM) (Q : Option Nat → hM → Prop) : Prop :=
  aLenK g M p0 fun x1 => w_J0_finishToArray_5 g F p1 Q F p0 x1 x1 M
theorem g_J0_finishToArray_65 {k : kT} {F : Nat} {p1 : Option Nat} {Q : Option Nat → hM → Prop} (hJ : JK (kl k) (kg k)) (hC : CX k 4 cJ0_finishToArray RJ0 (some (.array (.object "java/lang/Object"))) 1 12) (hQ : isQ k (PR Q)) (hin : (kt k).name = "finishToArray") : ∀ (s0 : Option Nat) (M : hM), w_J0_finishToArray_65 (kg k) F p1 Q s0 M → GW k 4 M 65 [none, some (va_rf p1), none, none] [va_rf s0] := by
  intro s0 M hw
  exact G_aret (pc := 65) hC (Or.inr ⟨_, rfl⟩) hQ dJ0_finishToArray_65 hw
theorem g_J0_finishToArray_36 {k : kT} {F : Nat} {p1 : Option Nat} {Q : Option Nat → hM → Prop} {K5 : (Option Nat) → Int32 → Int32 → hM → Prop} (hJ : JK (kl k) (kg k)) (hC : CX k 4 cJ0_finishToArray RJ0 (some (.array (.object "java/lang/Object"))) 1 12) (hQ : isQ k (PR Q)) (hin : (kt k).name = "finishToArray") (hK5 : ∀ (v0 : Option Nat) (v2 : Int32) (v3 : Int32) (M : hM), K5 v0 v2 v3 M → GW k 4 M 5 [some (va_rf v0), some (va_rf p1), some (.int v2), some (.int v3)] []) : ∀ (v0 : Option Nat) (v2 : Int32) (v3 : Int32) (M : hM), w_J0_finishToArray_36 (kg k) F p1 Q K5 v0 v2 v3 M → GW k 4 M 36 [some (va_rf v0), some (va_rf p1), some (.int v2), some (.int v3)] [] := by
  intro v0 v2 v3 M hw
  refine G_aload_n (pc := 36) (i := 0) hC dJ0_finishToArray_36 rfl rfl ?_
  refine G_iload_n (pc := 37) (i := 3) hC dJ0_finishToArray_37 rfl rfl ?_
  refine G_iinc (pc := 38) (i := 3) (v := (v3 + (1 : Int32))) (lw := [some (va_rf v0), some (va_rf p1), some (.int v2), some (.int (v3 + (1 : Int32)))]) hC dJ0_finishToArray_38 rfl (Nat.le_of_ble_eq_true rfl) rfl rfl ?_
  refine G_aload_n (pc := 41) (i := 1) hC dJ0_finishToArray_41 rfl rfl ?_
  exact hw.elim
theorem g_J0_finishToArray_5 {k : kT} {F : Nat} {p1 : Option Nat} {Q : Option Nat → hM → Prop} (hJ : JK (kl k) (kg k)) (hC : CX k 4 cJ0_finishToArray RJ0 (some (.array (.object "java/lang/Object"))) 1 12) (hQ : isQ k (PR Q)) (hin : (kt k).name = "finishToArray") : ∀ (n : Nat) (v0 : Option Nat) (v2 : Int32) (v3 : Int32) (M : hM), w_J0_finishToArray_5 (kg k) F p1 Q n v0 v2 v3 M → GW k 4 M 5 [some (va_rf v0), some (va_rf p1), some (.int v2), some (.int v3)] [] := by
  intro n
  induction n with
  | zero =>
    intro v0 v2 v3 M hw
    exact hw.elim
  | succ n ih =>
    intro v0 v2 v3 M hw
    refine G_aload_n (pc := 5) (i := 1) hC dJ0_finishToArray_5 rfl rfl ?_
    exact hw.elim
theorem m_J0_finishToArray {l : Launch} {g : gT} {F : Nat} {p0 : Option Nat} {p1 : Option Nat} {M : hM} {Q : Option Nat → hM → Prop} (hJ : JK l g) (hw : w_J0_finishToArray g F p0 p1 M Q) : MG l g yJ0_finishToArray (ws_ yJ0_finishToArray cJ0_finishToArray 4 (some (.array (.object "java/lang/Object")))) 1 12 [va_rf p0, va_rf p1] M (PR Q) := by
  refine MG_of hJ.2.1 (by decide) (cat_r (cat_r cat_e)) (Nat.le_of_ble_eq_true rfl) (fun k hl hg hin hQ hC => ?_)
  subst hl hg
  show GW k 4 M 0 [some (va_rf p0), some (va_rf p1), none, none] []
  refine G_aload_n (pc := 0) (i := 0) hC dJ0_finishToArray_0 rfl rfl ?_
  refine G_alenK (pc := 1) hJ hC dJ0_finishToArray_1 hw (fun x1 hw => ?_)
  refine G_istore_n (pc := 2) (i := 2) (lw := [some (va_rf p0), some (va_rf p1), some (.int x1), none]) hC dJ0_finishToArray_2 rfl (Nat.le_of_ble_eq_true rfl) rfl ?_
  refine G_iload_n (pc := 3) (i := 2) hC dJ0_finishToArray_3 rfl rfl ?_
  refine G_istore_n (pc := 4) (i := 3) (lw := [some (va_rf p0), some (va_rf p1), some (.int x1), some (.int x1)]) hC dJ0_finishToArray_4 rfl (Nat.le_of_ble_eq_true rfl) rfl ?_
  exact g_J0_finishToArray_5 hJ hC hQ hin _ p0 x1 x1 M hw
def w_J26_next (g : gT) (F : Nat) (a0 : Nat) (M : hM) (Q : Option Nat → hM → Prop) : Prop :=
  gI M (some a0) 27 0 fun x1 => ((x1 = 0 → False) ∧ (¬ (x1 = 0) → pV M (some a0) 27 0 (.int (0 : Int32)) fun M2 => gF M2 (some a0) 27 1 fun x3 => Q x3 M2))
theorem m_J26_next {l : Launch} {g : gT} {F : Nat} {a0 : Nat} {M : hM} {Q : Option Nat → hM → Prop} (hJ : JK l g) (hw : w_J26_next g F a0 M Q) : MG l g yJ26_next (ws_ yJ26_next cJ26_next 1 (some (.object "java/lang/Object"))) 1 12 [va_rf (some a0)] M (PR Q) := by
  refine MG_of hJ.2.1 (by decide) (cat_r cat_e) (Nat.le_of_ble_eq_true rfl) (fun k hl hg hin hQ hC => ?_)
  subst hl hg
  show GW k 1 M 0 [some (va_rf (some a0))] []
  refine G_aload_n (pc := 0) (i := 0) hC dJ26_next_0 rfl rfl ?_
  refine G_getI (pc := 1) (ci := 27) (C := RJ26) (T := TJ26) (N := 2) (f := 0) hC rfl in_J26 (Nat.le_of_ble_eq_true rfl) q840 (fun _ h => h) dJ26_next_1 hw (fun x1 hw => ?_)
  refine G_if_eq (pc := 4) (tgt := 17) hC dJ26_next_4 (by decide) (fun hc => ?_) (fun hc => ?_)
  · replace hw := hw.1 hc
    exact hw.elim
  · replace hw := hw.2 hc
    refine G_aload_n (pc := 7) (i := 0) hC dJ26_next_7 rfl rfl ?_
    refine G_iconst (pc := 8) (v := 0) hC dJ26_next_8 (by decide) ?_
    refine G_put (pc := 9) (ci := 27) (C := RJ26) (T := TJ26) (N := 2) (f := 0) tyJ26 hC rfl in_J26 tyJ26_ok nmJ26 (Nat.le_of_ble_eq_true rfl) q840 (fun _ h => h) rfl rfl rfl dJ26_next_9 hw (fun M2 hw => ?_)
    refine G_aload_n (pc := 12) (i := 0) hC dJ26_next_12 rfl rfl ?_
    refine G_getF (pc := 13) (ci := 27) (C := RJ26) (T := TJ26) (N := 2) (f := 1) hC rfl in_J26 (Nat.le_of_ble_eq_true rfl) q841 (fun _ h => h) dJ26_next_13 hw (fun x3 hw => ?_)
    exact G_aret (pc := 16) hC (Or.inl ⟨_, rfl⟩) hQ dJ26_next_16 hw
def w_J33_size (g : gT) (F : Nat) (a0 : Nat) (M : hM) (Q : Int32 → hM → Prop) : Prop :=
  Q (1 : Int32) M
theorem m_J33_size {l : Launch} {g : gT} {F : Nat} {a0 : Nat} {M : hM} {Q : Int32 → hM → Prop} (hJ : JK l g) (hw : w_J33_size g F a0 M Q) : MG l g yJ33_size (ws_ yJ33_size cJ33_size 1 (some .int)) 1 12 [va_rf (some a0)] M (PI Q) := by
  refine MG_of hJ.2.1 (by decide) (cat_r cat_e) (Nat.le_of_ble_eq_true rfl) (fun k hl hg hin hQ hC => ?_)
  subst hl hg
  show GW k 1 M 0 [some (va_rf (some a0))] []
  refine G_iconst (pc := 0) (v := 1) hC dJ33_size_0 (by decide) ?_
  exact G_iret (pc := 1) hC rfl hQ dJ33_size_1 hw
def w_J26_init (g : gT) (F : Nat) (a0 : Nat) (p1 : Option Nat) (M : hM) (Q : hM → Prop) : Prop :=
  pV M (some a0) 27 1 (va_rf p1) fun M1 => pV M1 (some a0) 27 0 (.int (1 : Int32)) fun M2 => Q M2
theorem m_J26_init {l : Launch} {g : gT} {F : Nat} {a0 : Nat} {p1 : Option Nat} {M : hM} {Q : hM → Prop} (hJ : JK l g) (hw : w_J26_init g F a0 p1 M Q) : MG l g yJ26_init (ws_ yJ26_init cJ26_init 2 none) 1 20 [va_rf (some a0), va_rf p1] M (PU Q) := by
  refine MG_of hJ.2.1 (by decide) (cat_r (cat_r cat_e)) (Nat.le_of_ble_eq_true rfl) (fun k hl hg hin hQ hC => ?_)
  subst hl hg
  show GW k 2 M 0 [some (va_rf (some a0)), some (va_rf p1)] []
  refine G_aload_n (pc := 0) (i := 0) hC dJ26_init_0 rfl rfl ?_
  refine G_aload_n (pc := 1) (i := 1) hC dJ26_init_1 rfl rfl ?_
  refine G_putF (pc := 2) (ci := 27) (C := RJ26) (T := TJ26) (N := 2) (f := 1) tyJ26 hC rfl in_J26 tyJ26_ok nmJ26 (Nat.le_of_ble_eq_true rfl) q841 (fun _ h => h) rfl hin rfl (nR_o _ _) (fR_o _ _) dJ26_init_2 hw (fun M1 hw => ?_)
  refine G_aload_n (pc := 5) (i := 0) hC dJ26_init_5 rfl rfl ?_
  refine G_objInit (pc := 6) hC q839 q158 q159 rfl rfl (st_c cat_e (Nat.le_of_ble_eq_true rfl)) dJ26_init_6 ?_
  refine G_aload_n (pc := 9) (i := 0) hC dJ26_init_9 rfl rfl ?_
  refine G_iconst (pc := 10) (v := 1) hC dJ26_init_10 (by decide) ?_
  refine G_put (pc := 11) (ci := 27) (C := RJ26) (T := TJ26) (N := 2) (f := 0) tyJ26 hC rfl in_J26 tyJ26_ok nmJ26 (Nat.le_of_ble_eq_true rfl) q840 (fun _ h => h) rfl rfl rfl dJ26_init_11 hw (fun M2 hw => ?_)
  exact G_ret (pc := 14) hC hQ dJ26_init_14 hw
theorem hdK_J26_init : yJ26_init.cls = "java/util/Collections$1" ∧ yJ26_init.cls ≠ "java/lang/invoke/MethodHandle" ∧ yJ26_init.cls ≠ "java/lang/invoke/VarHandle" ∧ (parseMethodDescriptor yJ26_init.desc).map (fun d => d.parameters.length) = some 1 := by decide +kernel
def w_J25_singletonIterator (g : gT) (F : Nat) (p0 : Option Nat) (M : hM) (Q : Option Nat → hM → Prop) : Prop :=
  nW M 27 fsJ26 fun q1 M2 => (isC M2 q1 27 ∧ w_J26_init g F q1 p0 M2 (fun M3 => Q (some q1) M3))
theorem m_J25_singletonIterator {l : Launch} {g : gT} {F : Nat} {p0 : Option Nat} {M : hM} {Q : Option Nat → hM → Prop} (hJ : JK l g) (hw : w_J25_singletonIterator g F p0 M Q) : MG l g yJ25_singletonIterator (ws_ yJ25_singletonIterator cJ25_singletonIterator 1 (some (.object "java/util/Iterator"))) 2 41 [va_rf p0] M (PR Q) := by
  refine MG_of hJ.2.1 (by decide) (cat_r cat_e) (Nat.le_of_ble_eq_true rfl) (fun k hl hg hin hQ hC => ?_)
  subst hl hg
  show GW k 1 M 0 [some (va_rf p0)] []
  refine G_new (pc := 0) (ci := 27) (C := RJ26) (T := TJ26) (N := 2) (fs := fsJ26) tyJ26 hC rfl in_J26 tyJ26_ok q834 q835 q114 dfJ26 rfl dJ25_singletonIterator_0 hw (fun q1 M2 hw => ?_)
  refine G_dup (pc := 3) hC dJ25_singletonIterator_3 (rf_cat _) ?_
  refine G_aload_n (pc := 4) (i := 0) hC dJ25_singletonIterator_4 rfl rfl ?_
  obtain ⟨hb, hw⟩ := hw
  refine G_callI (pc := 5) (n := 1) (b := q1) (As := [va_rf p0]) (rest := [va_rf (some q1)]) hC (m_J26_init hJ hw) (lw_meth q838) q114 q836 q837 rfl hdK_J26_init.2 (by decide) rfl rfl (st_c (cat_r cat_e) (Nat.le_of_ble_eq_true rfl)) dJ25_singletonIterator_5 (kU fun M3 hw => ?_)
  exact G_aret (pc := 8) hC (Or.inl ⟨_, rfl⟩) hQ dJ25_singletonIterator_8 hw
theorem hdK_J25_singletonIterator : yJ25_singletonIterator.cls = "java/util/Collections" ∧ yJ25_singletonIterator.cls ≠ "java/lang/invoke/MethodHandle" ∧ yJ25_singletonIterator.cls ≠ "java/lang/invoke/VarHandle" ∧ (parseMethodDescriptor yJ25_singletonIterator.desc).map (fun d => d.parameters.length) = some 1 := by decide +kernel
def w_J33_iterator (g : gT) (F : Nat) (a0 : Nat) (M : hM) (Q : Option Nat → hM → Prop) : Prop :=
  gF M (some a0) 28 1 fun x1 => w_J25_singletonIterator g F x1 M (fun x3 M2 => Q x3 M2)
theorem m_J33_iterator {l : Launch} {g : gT} {F : Nat} {a0 : Nat} {M : hM} {Q : Option Nat → hM → Prop} (hJ : JK l g) (hw : w_J33_iterator g F a0 M Q) : MG l g yJ33_iterator (ws_ yJ33_iterator cJ33_iterator 1 (some (.object "java/util/Iterator"))) 3 61 [va_rf (some a0)] M (PR Q) := by
  refine MG_of hJ.2.1 (by decide) (cat_r cat_e) (Nat.le_of_ble_eq_true rfl) (fun k hl hg hin hQ hC => ?_)
  subst hl hg
  show GW k 1 M 0 [some (va_rf (some a0))] []
  refine G_aload_n (pc := 0) (i := 0) hC dJ33_iterator_0 rfl rfl ?_
  refine G_getF (pc := 1) (ci := 28) (C := RJ33) (T := TJ33) (N := 2) (f := 1) hC rfl in_J33 (Nat.le_of_ble_eq_true rfl) q1840 (fun _ h => h) dJ33_iterator_1 hw (fun x1 hw => ?_)
  refine G_callS (pc := 4) (n := 1) (As := [va_rf x1]) (rest := []) hC (m_J25_singletonIterator hJ hw) (lw_S q831 q832 q113 q833) hdK_J25_singletonIterator.2 (by decide) rfl rfl (st_c cat_e (Nat.le_of_ble_eq_true rfl)) dJ33_iterator_4 (kRf fun x3 M2 hw => ?_)
  exact G_aret (pc := 7) hC (Or.inl ⟨_, rfl⟩) hQ dJ33_iterator_7 hw
theorem hdK_J0_finishToArray : yJ0_finishToArray.cls = "java/util/AbstractCollection" ∧ yJ0_finishToArray.cls ≠ "java/lang/invoke/MethodHandle" ∧ yJ0_finishToArray.cls ≠ "java/lang/invoke/VarHandle" ∧ (parseMethodDescriptor yJ0_finishToArray.desc).map (fun d => d.parameters.length) = some 2 := by decide +kernel
def w_J0_toArray_s28_69 (g : gT) (F : Nat) (a0 : Nat) (Q : Option Nat → hM → Prop) (s0 : Option Nat) (M : hM) : Prop :=
  Q s0 M
def w_J0_toArray_s28_15 (g : gT) (F : Nat) (a0 : Nat) (Q : Option Nat → hM → Prop) : Nat → (Option Nat) → (Option Nat) → Int32 → hM → Prop
  | 0, _, _, _, _ => False
  | n + 1, v1, v2, v3, M => aLenK g M v1 fun x1 => ((x1 ≤ v3 → gThis M v2 27 fun b3 => w_J26_hasNext g F b3  M (fun x4 M2 => ((x4 = 0 → w_J0_toArray_s28_69 g F a0 Q v1 M2) ∧ (¬ (x4 = 0) → w_J0_finishToArray g F v1 (some b3) M2 (fun x6 M5 => w_J0_toArray_s28_69 g F a0 Q x6 M5))))) ∧ (¬ (x1 ≤ v3) → gThis M v2 27 fun b8 => w_J26_hasNext g F b8  M (fun x9 M7 => ((¬ x9 = 0 → (isC M7 b8 27 ∧ w_J26_next g F b8  M7 (fun x11 M10 => sR g M10 v1 v3 x11 fun M12 => w_J0_toArray_s28_15 g F a0 Q n v1 (some b8) (v3 + (1 : Int32)) M12))) ∧ (x9 = 0 → w_J10_copyOf g F v1 v3 M7 (fun x14 M13 => Q x14 M13))))))
def w_J0_toArray_s28 (g : gT) (F : Nat) (a0 : Nat) (M : hM) (Q : Option Nat → hM → Prop) : Prop :=
  (isC M a0 28 ∧ w_J33_size g F a0  M (fun x2 M1 => nA M1 6 x2 (.inr (.inr (.inr (.inr (fun _ => none))))) fun q3 M4 => (isC M4 a0 28 ∧ w_J33_iterator g F a0  M4 (fun x6 M5 => w_J0_toArray_s28_15 g F a0 Q F (some q3) x6 (0 : Int32) M5))))
theorem g_J0_toArray_s28_69 {k : kT} {F : Nat} {a0 : Nat} {Q : Option Nat → hM → Prop} (hJ : JK (kl k) (kg k)) (hC : CX k 4 cJ0_toArray RJ0 (some (.array (.object "java/lang/Object"))) 4 84) (hQ : isQ k (PR Q)) (hin : (kt k).name = "toArray") : ∀ (s0 : Option Nat) (M : hM), w_J0_toArray_s28_69 (kg k) F a0 Q s0 M → GW k 4 M 69 [some (va_rf (some a0)), none, none, none] [va_rf s0] := by
  intro s0 M hw
  exact G_aret (pc := 69) hC (Or.inr ⟨_, rfl⟩) hQ dJ0_toArray_69 hw
theorem g_J0_toArray_s28_15 {k : kT} {F : Nat} {a0 : Nat} {Q : Option Nat → hM → Prop} (hJ : JK (kl k) (kg k)) (hC : CX k 4 cJ0_toArray RJ0 (some (.array (.object "java/lang/Object"))) 4 84) (hQ : isQ k (PR Q)) (hin : (kt k).name = "toArray") : ∀ (n : Nat) (v1 : Option Nat) (v2 : Option Nat) (v3 : Int32) (M : hM), w_J0_toArray_s28_15 (kg k) F a0 Q n v1 v2 v3 M → GW k 4 M 15 [some (va_rf (some a0)), some (va_rf v1), some (va_rf v2), some (.int v3)] [] := by
  intro n
  induction n with
  | zero =>
    intro v1 v2 v3 M hw
    exact hw.elim
  | succ n ih =>
    intro v1 v2 v3 M hw
    refine G_iload_n (pc := 15) (i := 3) hC dJ0_toArray_15 rfl rfl ?_
    refine G_aload_n (pc := 16) (i := 1) hC dJ0_toArray_16 rfl rfl ?_
    refine G_alenK (pc := 17) hJ hC dJ0_toArray_17 hw (fun x1 hw => ?_)
    refine G_icmp_ge (pc := 18) (tgt := 51) hC dJ0_toArray_18 (by decide) (fun hc => ?_) (fun hc => ?_)
    · replace hw := hw.1 hc
      refine G_aload_n (pc := 51) (i := 2) hC dJ0_toArray_51 rfl rfl ?_
      obtain ⟨b3, rfl, hb, hw⟩ := gThis_e hw
      refine G_callF (pc := 52) (n := 0) (x := ⟨"java/util/Iterator", "hasNext", "()Z"⟩) (C := "java/util/Collections$1") (ci := 27) (T := TJ26) (N := 2) (b := b3) (As := []) (rest := []) hC (m_J26_hasNext hJ hw) (lw_F q876 q918 q920 q114 q922) (nw_in q878 rfl) (nw_in q877 rfl) (nw_in q921 rfl) (nw_in q919 rfl) (nw_in q917 rfl) rfl (rcv (C := RJ26) (T := TJ26) (N := 2) hC hb rfl) (by decide +kernel) (by decide) rfl rfl (st_c cat_e (Nat.le_of_ble_eq_true rfl)) dJ0_toArray_52 (kI fun x4 M2 hw => ?_)
      refine G_if_eq (pc := 57) (tgt := 68) hC dJ0_toArray_57 (by decide) (fun hc => ?_) (fun hc => ?_)
      · replace hw := hw.1 hc
        refine G_aload_n (pc := 68) (i := 1) hC dJ0_toArray_68 rfl rfl ?_
        refine G_loc (lv' := [some (va_rf (some a0)), none, none, none]) ⟨Or.inr rfl, Or.inl rfl, Or.inl rfl, Or.inl rfl, trivial⟩ ?_
        exact g_J0_toArray_s28_69 hJ hC hQ hin  v1 M2 hw
      · replace hw := hw.2 hc
        refine G_aload_n (pc := 60) (i := 1) hC dJ0_toArray_60 rfl rfl ?_
        refine G_aload_n (pc := 61) (i := 2) hC dJ0_toArray_61 rfl rfl ?_
        refine G_callS (pc := 62) (n := 2) (As := [va_rf v1, va_rf (some b3)]) (rest := []) hC (m_J0_finishToArray hJ hw) (lw_S q1160 q1161 q85 q1162) hdK_J0_finishToArray.2 (by decide) rfl rfl (st_c cat_e (Nat.le_of_ble_eq_true rfl)) dJ0_toArray_62 (kRf fun x6 M5 hw => ?_)
        refine G_goto (pc := 65) (tgt := 69) hC dJ0_toArray_65 (by decide) ?_
        refine G_loc (lv' := [some (va_rf (some a0)), none, none, none]) ⟨Or.inr rfl, Or.inl rfl, Or.inl rfl, Or.inl rfl, trivial⟩ ?_
        exact g_J0_toArray_s28_69 hJ hC hQ hin  x6 M5 hw
    · replace hw := hw.2 hc
      refine G_aload_n (pc := 21) (i := 2) hC dJ0_toArray_21 rfl rfl ?_
      obtain ⟨b8, rfl, hb, hw⟩ := gThis_e hw
      refine G_callF (pc := 22) (n := 0) (x := ⟨"java/util/Iterator", "hasNext", "()Z"⟩) (C := "java/util/Collections$1") (ci := 27) (T := TJ26) (N := 2) (b := b8) (As := []) (rest := []) hC (m_J26_hasNext hJ hw) (lw_F q876 q918 q920 q114 q922) (nw_in q878 rfl) (nw_in q877 rfl) (nw_in q921 rfl) (nw_in q919 rfl) (nw_in q917 rfl) rfl (rcv (C := RJ26) (T := TJ26) (N := 2) hC hb rfl) (by decide +kernel) (by decide) rfl rfl (st_c cat_e (Nat.le_of_ble_eq_true rfl)) dJ0_toArray_22 (kI fun x9 M7 hw => ?_)
      refine G_if_ne (pc := 27) (tgt := 36) hC dJ0_toArray_27 (by decide) (fun hc => ?_) (fun hc => ?_)
      · replace hw := hw.1 hc
        refine G_aload_n (pc := 36) (i := 1) hC dJ0_toArray_36 rfl rfl ?_
        refine G_iload_n (pc := 37) (i := 3) hC dJ0_toArray_37 rfl rfl ?_
        refine G_aload_n (pc := 38) (i := 2) hC dJ0_toArray_38 rfl rfl ?_
        obtain ⟨hb, hw⟩ := hw
        refine G_callF (pc := 39) (n := 0) (x := ⟨"java/util/Iterator", "next", "()Ljava/lang/Object;"⟩) (C := "java/util/Collections$1") (ci := 27) (T := TJ26) (N := 2) (b := b8) (As := []) (rest := [.int v3, va_rf v1]) hC (m_J26_next hJ hw) (lw_F q935 q1134 q1136 q114 q1138) (nw_in q937 rfl) (nw_in q936 rfl) (nw_in q1137 rfl) (nw_in q1135 rfl) (nw_in q917 rfl) rfl (rcv (C := RJ26) (T := TJ26) (N := 2) hC hb rfl) (by decide +kernel) (by decide) rfl rfl (st_c (cat_i (cat_r cat_e)) (Nat.le_of_ble_eq_true rfl)) dJ0_toArray_39 (kRf fun x11 M10 hw => ?_)
        refine G_aastO (pc := 44) hJ hC dJ0_toArray_44 hw (fun M12 hw => ?_)
        refine G_iinc (pc := 45) (i := 3) (v := (v3 + (1 : Int32))) (lw := [some (va_rf (some a0)), some (va_rf v1), some (va_rf (some b8)), some (.int (v3 + (1 : Int32)))]) hC dJ0_toArray_45 rfl (Nat.le_of_ble_eq_true rfl) rfl rfl ?_
        refine G_goto (pc := 48) (tgt := 15) hC dJ0_toArray_48 (by decide) ?_
        exact ih v1 (some b8) (v3 + (1 : Int32)) M12 hw
      · replace hw := hw.2 hc
        refine G_aload_n (pc := 30) (i := 1) hC dJ0_toArray_30 rfl rfl ?_
        refine G_iload_n (pc := 31) (i := 3) hC dJ0_toArray_31 rfl rfl ?_
        refine G_callS (pc := 32) (n := 2) (As := [va_rf v1, .int v3]) (rest := []) hC (m_J10_copyOf hJ hw) (lw_S q933 q288 q96 q289) hdK_J10_copyOf.2 (by decide) rfl rfl (st_c cat_e (Nat.le_of_ble_eq_true rfl)) dJ0_toArray_32 (kRf fun x14 M13 hw => ?_)
        exact G_aret (pc := 35) hC (Or.inr ⟨_, rfl⟩) hQ dJ0_toArray_35 hw
theorem m_J0_toArray_s28 {l : Launch} {g : gT} {F : Nat} {a0 : Nat} {M : hM} {Q : Option Nat → hM → Prop} (hJ : JK l g) (hw : w_J0_toArray_s28 g F a0 M Q) : MG l g yJ0_toArray (ws_ yJ0_toArray cJ0_toArray 4 (some (.array (.object "java/lang/Object")))) 4 84 [va_rf (some a0)] M (PR Q) := by
  refine MG_of hJ.2.1 (by decide) (cat_r cat_e) (Nat.le_of_ble_eq_true rfl) (fun k hl hg hin hQ hC => ?_)
  subst hl hg
  show GW k 4 M 0 [some (va_rf (some a0)), none, none, none] []
  refine G_aload_n (pc := 0) (i := 0) hC dJ0_toArray_0 rfl rfl ?_
  obtain ⟨hb, hw⟩ := hw
  refine G_callA (pc := 1) (n := 0) (x := ⟨"java/util/AbstractCollection", "size", "()I"⟩) (owner := "java/util/AbstractCollection") (C := "java/util/Collections$SingletonList") (b := a0) (As := []) (rest := []) hC (m_J33_size hJ hw) (lw_U q767 q3863 q3866 q366 q127 q367) (nw_in q361 rfl) (rcv (C := RJ33) (T := TJ33) (N := 2) hC hb rfl) (by decide +kernel) (by decide) rfl rfl (st_c cat_e (Nat.le_of_ble_eq_true rfl)) dJ0_toArray_1 (kI fun x2 M1 hw => ?_)
  refine G_anewO (pc := 4) hC q775 dJ0_toArray_4 hw (fun q3 M4 hw => ?_)
  refine G_astore_n (pc := 7) (i := 1) (lw := [some (va_rf (some a0)), some (va_rf (some q3)), none, none]) hC dJ0_toArray_7 rfl (Nat.le_of_ble_eq_true rfl) rfl ?_
  refine G_aload_n (pc := 8) (i := 0) hC dJ0_toArray_8 rfl rfl ?_
  obtain ⟨hb, hw⟩ := hw
  refine G_callA (pc := 9) (n := 0) (x := ⟨"java/util/AbstractCollection", "iterator", "()Ljava/util/Iterator;"⟩) (owner := "java/util/AbstractCollection") (C := "java/util/Collections$SingletonList") (b := a0) (As := []) (rest := []) hC (m_J33_iterator hJ hw) (lw_U q776 q778 q828 q829 q127 q830) (nw_in q777 rfl) (rcv (C := RJ33) (T := TJ33) (N := 2) hC hb rfl) (by decide +kernel) (by decide) rfl rfl (st_c cat_e (Nat.le_of_ble_eq_true rfl)) dJ0_toArray_9 (kRf fun x6 M5 hw => ?_)
  refine G_astore_n (pc := 12) (i := 2) (lw := [some (va_rf (some a0)), some (va_rf (some q3)), some (va_rf x6), none]) hC dJ0_toArray_12 rfl (Nat.le_of_ble_eq_true rfl) rfl ?_
  refine G_iconst (pc := 13) (v := 0) hC dJ0_toArray_13 (by decide) ?_
  refine G_istore_n (pc := 14) (i := 3) (lw := [some (va_rf (some a0)), some (va_rf (some q3)), some (va_rf x6), some (.int (0 : Int32))]) hC dJ0_toArray_14 rfl (Nat.le_of_ble_eq_true rfl) rfl ?_
  exact g_J0_toArray_s28_15 hJ hC hQ hin _ (some q3) x6 (0 : Int32) M5 hw
def w_J2_addAll_v28_56 (g : gT) (F : Nat) (a0 : Nat) (p1 : Option Nat) (Q : Int32 → hM → Prop) (v2 : Option Nat) (v3 : Int32) (v4 : Option Nat) (v5 : Int32) (M : hM) : Prop :=
  cQ g M v2 (0 : Int32) v4 v5 v3 fun M1 => pV M1 (some a0) 21 2 (.int (v5 + v3)) fun M2 => Q (1 : Int32) M2
def w_J2_addAll_v28 (g : gT) (F : Nat) (a0 : Nat) (p1 : Option Nat) (M : hM) (Q : Int32 → hM → Prop) : Prop :=
  gThis M p1 28 fun b2 => w_J0_toArray_s28 g F b2  M (fun x3 M1 => gI M1 (some a0) 21 0 fun x4 => pV M1 (some a0) 21 0 (.int (x4 + (1 : Int32))) fun M5 => aLenK g M5 x3 fun x6 => ((¬ x6 = 0 → gF M5 (some a0) 21 1 fun x7 => aLenK g M5 x7 fun x8 => gI M5 (some a0) 21 2 fun x9 => ((x6 ≤ (x8 - x9) → w_J2_addAll_v28_56 g F a0 p1 Q x3 x6 x7 x9 M5) ∧ (¬ (x6 ≤ (x8 - x9)) → (isC M5 a0 21 ∧ w_J2_grow_2 g F a0 (x9 + x6) M5 (fun x11 M10 => w_J2_addAll_v28_56 g F a0 p1 Q x3 x6 x11 x9 M10))))) ∧ (x6 = 0 → Q (0 : Int32) M5)))
theorem g_J2_addAll_v28_56 {k : kT} {F : Nat} {a0 : Nat} {p1 : Option Nat} {Q : Int32 → hM → Prop} (hJ : JK (kl k) (kg k)) (hC : CX k 6 cJ2_addAll RJ2 (some .boolean) 5 107) (hQ : isQ k (PI Q)) (hin : (kt k).name = "addAll") : ∀ (v2 : Option Nat) (v3 : Int32) (v4 : Option Nat) (v5 : Int32) (M : hM), w_J2_addAll_v28_56 (kg k) F a0 p1 Q v2 v3 v4 v5 M → GW k 6 M 56 [some (va_rf (some a0)), some (va_rf p1), some (va_rf v2), some (.int v3), some (va_rf v4), some (.int v5)] [] := by
  intro v2 v3 v4 v5 M hw
  refine G_aload_n (pc := 56) (i := 2) hC dJ2_addAll_56 rfl rfl ?_
  refine G_iconst (pc := 57) (v := 0) hC dJ2_addAll_57 (by decide) ?_
  refine G_aload (pc := 58) (i := 4) hC dJ2_addAll_58 rfl ?_
  refine G_iload (pc := 60) (i := 5) hC dJ2_addAll_60 rfl ?_
  refine G_iload_n (pc := 62) (i := 3) hC dJ2_addAll_62 rfl rfl ?_
  refine G_copyQ (pc := 63) hJ hC q670 q350 q349 q97 (st_c cat_e (Nat.le_of_ble_eq_true rfl)) rfl rfl dJ2_addAll_63 hw (fun M1 hw => ?_)
  refine G_aload_n (pc := 66) (i := 0) hC dJ2_addAll_66 rfl rfl ?_
  refine G_iload (pc := 67) (i := 5) hC dJ2_addAll_67 rfl ?_
  refine G_iload_n (pc := 69) (i := 3) hC dJ2_addAll_69 rfl rfl ?_
  refine G_iadd (pc := 70) hC dJ2_addAll_70 ?_
  refine G_put (pc := 71) (ci := 21) (C := RJ2) (T := TJ2) (N := 3) (f := 2) tyJ2 hC rfl in_J2 tyJ2_ok nmJ2 (Nat.le_of_ble_eq_true rfl) q177 (fun _ h => h) rfl rfl rfl dJ2_addAll_71 hw (fun M2 hw => ?_)
  refine G_iconst (pc := 74) (v := 1) hC dJ2_addAll_74 (by decide) ?_
  exact G_iret (pc := 75) hC rfl hQ dJ2_addAll_75 hw
theorem m_J2_addAll_v28 {l : Launch} {g : gT} {F : Nat} {a0 : Nat} {p1 : Option Nat} {M : hM} {Q : Int32 → hM → Prop} (hJ : JK l g) (hw : w_J2_addAll_v28 g F a0 p1 M Q) : MG l g yJ2_addAll (ws_ yJ2_addAll cJ2_addAll 6 (some .boolean)) 5 107 [va_rf (some a0), va_rf p1] M (PI Q) := by
  refine MG_of hJ.2.1 (by decide) (cat_r (cat_r cat_e)) (Nat.le_of_ble_eq_true rfl) (fun k hl hg hin hQ hC => ?_)
  subst hl hg
  show GW k 6 M 0 [some (va_rf (some a0)), some (va_rf p1), none, none, none, none] []
  refine G_aload_n (pc := 0) (i := 1) hC dJ2_addAll_0 rfl rfl ?_
  obtain ⟨b2, rfl, hb, hw⟩ := gThis_e hw
  refine G_callF (pc := 1) (n := 0) (x := ⟨"java/util/Collection", "toArray", "()[Ljava/lang/Object;"⟩) (C := "java/util/Collections$SingletonList") (ci := 28) (T := TJ33) (N := 2) (b := b2) (As := []) (rest := []) hC (m_J0_toArray_s28 hJ hw) (lw_F q737 q762 q764 q85 q766) (nw_in q739 rfl) (nw_in q738 rfl) (nw_in q765 rfl) (nw_in q763 rfl) (nw_in q761 rfl) rfl (rcv (C := RJ33) (T := TJ33) (N := 2) hC hb rfl) (by decide +kernel) (by decide) rfl rfl (st_c cat_e (Nat.le_of_ble_eq_true rfl)) dJ2_addAll_1 (kRf fun x3 M1 hw => ?_)
  refine G_astore_n (pc := 6) (i := 2) (lw := [some (va_rf (some a0)), some (va_rf (some b2)), some (va_rf x3), none, none, none]) hC dJ2_addAll_6 rfl (Nat.le_of_ble_eq_true rfl) rfl ?_
  refine G_aload_n (pc := 7) (i := 0) hC dJ2_addAll_7 rfl rfl ?_
  refine G_dup (pc := 8) hC dJ2_addAll_8 (rf_cat _) ?_
  refine G_getI (pc := 9) (ci := 21) (C := RJ2) (T := TJ2) (N := 3) (f := 0) hC rfl in_J2 (Nat.le_of_ble_eq_true rfl) q183 (fun x h => u_same (hC.ts _ q180) x h) dJ2_addAll_9 hw (fun x4 hw => ?_)
  refine G_iconst (pc := 12) (v := 1) hC dJ2_addAll_12 (by decide) ?_
  refine G_iadd (pc := 13) hC dJ2_addAll_13 ?_
  refine G_put (pc := 14) (ci := 21) (C := RJ2) (T := TJ2) (N := 3) (f := 0) tyJ2 hC rfl in_J2 tyJ2_ok nmJ2 (Nat.le_of_ble_eq_true rfl) q183 (fun x h => u_same (hC.ts _ q180) x h) rfl rfl rfl dJ2_addAll_14 hw (fun M5 hw => ?_)
  refine G_aload_n (pc := 17) (i := 2) hC dJ2_addAll_17 rfl rfl ?_
  refine G_alenK (pc := 18) hJ hC dJ2_addAll_18 hw (fun x6 hw => ?_)
  refine G_istore_n (pc := 19) (i := 3) (lw := [some (va_rf (some a0)), some (va_rf (some b2)), some (va_rf x3), some (.int x6), none, none]) hC dJ2_addAll_19 rfl (Nat.le_of_ble_eq_true rfl) rfl ?_
  refine G_iload_n (pc := 20) (i := 3) hC dJ2_addAll_20 rfl rfl ?_
  refine G_if_ne (pc := 21) (tgt := 26) hC dJ2_addAll_21 (by decide) (fun hc => ?_) (fun hc => ?_)
  · replace hw := hw.1 hc
    refine G_iload_n (pc := 26) (i := 3) hC dJ2_addAll_26 rfl rfl ?_
    refine G_aload_n (pc := 27) (i := 0) hC dJ2_addAll_27 rfl rfl ?_
    refine G_getF (pc := 28) (ci := 21) (C := RJ2) (T := TJ2) (N := 3) (f := 1) hC rfl in_J2 (Nat.le_of_ble_eq_true rfl) q174 (fun _ h => h) dJ2_addAll_28 hw (fun x7 hw => ?_)
    refine G_dup (pc := 31) hC dJ2_addAll_31 (rf_cat _) ?_
    refine G_astore (pc := 32) (i := 4) (lw := [some (va_rf (some a0)), some (va_rf (some b2)), some (va_rf x3), some (.int x6), some (va_rf x7), none]) hC dJ2_addAll_32 (Nat.le_of_ble_eq_true rfl) rfl ?_
    refine G_alenK (pc := 34) hJ hC dJ2_addAll_34 hw (fun x8 hw => ?_)
    refine G_aload_n (pc := 35) (i := 0) hC dJ2_addAll_35 rfl rfl ?_
    refine G_getI (pc := 36) (ci := 21) (C := RJ2) (T := TJ2) (N := 3) (f := 2) hC rfl in_J2 (Nat.le_of_ble_eq_true rfl) q177 (fun _ h => h) dJ2_addAll_36 hw (fun x9 hw => ?_)
    refine G_dup (pc := 39) hC dJ2_addAll_39 rfl ?_
    refine G_istore (pc := 40) (i := 5) (lw := [some (va_rf (some a0)), some (va_rf (some b2)), some (va_rf x3), some (.int x6), some (va_rf x7), some (.int x9)]) hC dJ2_addAll_40 (Nat.le_of_ble_eq_true rfl) rfl ?_
    refine G_isub (pc := 42) hC dJ2_addAll_42 ?_
    refine G_icmp_le (pc := 43) (tgt := 56) hC dJ2_addAll_43 (by decide) (fun hc => ?_) (fun hc => ?_)
    · replace hw := hw.1 hc
      exact g_J2_addAll_v28_56 hJ hC hQ hin  x3 x6 x7 x9 M5 hw
    · replace hw := hw.2 hc
      refine G_aload_n (pc := 46) (i := 0) hC dJ2_addAll_46 rfl rfl ?_
      refine G_iload (pc := 47) (i := 5) hC dJ2_addAll_47 rfl ?_
      refine G_iload_n (pc := 49) (i := 3) hC dJ2_addAll_49 rfl rfl ?_
      refine G_iadd (pc := 50) hC dJ2_addAll_50 ?_
      obtain ⟨hb, hw⟩ := hw
      refine G_callV (pc := 51) (n := 1) (C := "java/util/ArrayList") (b := a0) (As := [.int (x9 + x6)]) (rest := []) hC (m_J2_grow_2 hJ hw) (lw_V q273 q275 qs2 q87 q276) hdK_J2_grow_2 (by decide) (rcv (C := RJ2) (T := TJ2) (N := 3) hC hb rfl) rfl rfl (st_c cat_e (Nat.le_of_ble_eq_true rfl)) dJ2_addAll_51 (kRf fun x11 M10 hw => ?_)
      refine G_astore (pc := 54) (i := 4) (lw := [some (va_rf (some a0)), some (va_rf (some b2)), some (va_rf x3), some (.int x6), some (va_rf x11), some (.int x9)]) hC dJ2_addAll_54 (Nat.le_of_ble_eq_true rfl) rfl ?_
      exact g_J2_addAll_v28_56 hJ hC hQ hin  x3 x6 x11 x9 M10 hw
  · replace hw := hw.2 hc
    refine G_iconst (pc := 24) (v := 0) hC dJ2_addAll_24 (by decide) ?_
    exact G_iret (pc := 25) hC rfl hQ dJ2_addAll_25 hw
def w_J2_checkForComodification (g : gT) (F : Nat) (a0 : Nat) (p1 : Int32) (M : hM) (Q : hM → Prop) : Prop :=
  gI M (some a0) 21 0 fun x1 => ((x1 = p1 → Q M) ∧ (¬ (x1 = p1) → False))
theorem m_J2_checkForComodification {l : Launch} {g : gT} {F : Nat} {a0 : Nat} {p1 : Int32} {M : hM} {Q : hM → Prop} (hJ : JK l g) (hw : w_J2_checkForComodification g F a0 p1 M Q) : MG l g yJ2_checkForComodification (ws_ yJ2_checkForComodification cJ2_checkForComodification 2 none) 1 12 [va_rf (some a0), .int p1] M (PU Q) := by
  refine MG_of hJ.2.1 (by decide) (cat_r (cat_i cat_e)) (Nat.le_of_ble_eq_true rfl) (fun k hl hg hin hQ hC => ?_)
  subst hl hg
  show GW k 2 M 0 [some (va_rf (some a0)), some (.int p1)] []
  refine G_aload_n (pc := 0) (i := 0) hC dJ2_checkForComodification_0 rfl rfl ?_
  refine G_getI (pc := 1) (ci := 21) (C := RJ2) (T := TJ2) (N := 3) (f := 0) hC rfl in_J2 (Nat.le_of_ble_eq_true rfl) q183 (fun x h => u_same (hC.ts _ q180) x h) dJ2_checkForComodification_1 hw (fun x1 hw => ?_)
  refine G_iload_n (pc := 4) (i := 1) hC dJ2_checkForComodification_4 rfl rfl ?_
  refine G_icmp_eq (pc := 5) (tgt := 16) hC dJ2_checkForComodification_5 (by decide) (fun hc => ?_) (fun hc => ?_)
  · replace hw := hw.1 hc
    exact G_ret (pc := 16) hC hQ dJ2_checkForComodification_16 hw
  · replace hw := hw.2 hc
    exact hw.elim
def w_J2_equalsRange_84 (g : gT) (F : Nat) (a0 : Nat) (p1 : Option Nat) (p3 : Int32) (Q : Int32 → hM → Prop) (s0 : Int32) (M : hM) : Prop :=
  ((s0 = 0 ∨ s0 = 1) ∧ Q s0 M)
def w_J2_equalsRange_61 (g : gT) (F : Nat) (a0 : Nat) (p1 : Option Nat) (p3 : Int32) (Q : Int32 → hM → Prop) (M : hM) : Prop :=
  Q (0 : Int32) M
def w_J2_equalsRange_29 (g : gT) (F : Nat) (a0 : Nat) (p1 : Option Nat) (p3 : Int32) (Q : Int32 → hM → Prop) : Nat → Int32 → (Option Nat) → (Option Nat) → hM → Prop
  | 0, _, _, _, _ => False
  | n + 1, v2, v4, v5, M => ((p3 ≤ v2 → False) ∧ (¬ (p3 ≤ v2) → False))
def w_J2_equalsRange (g : gT) (F : Nat) (a0 : Nat) (p1 : Option Nat) (p2 : Int32) (p3 : Int32) (M : hM) (Q : Int32 → hM → Prop) : Prop :=
  gF M (some a0) 21 1 fun x1 => aLenK g M x1 fun x2 => ((p3 ≤ x2 → False) ∧ (¬ (p3 ≤ x2) → False))
theorem g_J2_equalsRange_84 {k : kT} {F : Nat} {a0 : Nat} {p1 : Option Nat} {p3 : Int32} {Q : Int32 → hM → Prop} (hJ : JK (kl k) (kg k)) (hC : CX k 6 cJ2_equalsRange RJ2 (some .boolean) 1 12) (hQ : isQ k (PI Q)) (hin : (kt k).name = "equalsRange") : ∀ (s0 : Int32) (M : hM), w_J2_equalsRange_84 (kg k) F a0 p1 p3 Q s0 M → GW k 6 M 84 [some (va_rf (some a0)), some (va_rf p1), none, some (.int p3), none, none] [.int s0] := by
  intro s0 M hw
  obtain ⟨hz, hw⟩ := hw
  exact G_iret (pc := 84) hC (nz_n hz) hQ dJ2_equalsRange_84 hw
theorem g_J2_equalsRange_61 {k : kT} {F : Nat} {a0 : Nat} {p1 : Option Nat} {p3 : Int32} {Q : Int32 → hM → Prop} (hJ : JK (kl k) (kg k)) (hC : CX k 6 cJ2_equalsRange RJ2 (some .boolean) 1 12) (hQ : isQ k (PI Q)) (hin : (kt k).name = "equalsRange") : ∀  (M : hM), w_J2_equalsRange_61 (kg k) F a0 p1 p3 Q  M → GW k 6 M 61 [some (va_rf (some a0)), some (va_rf p1), none, some (.int p3), none, none] [] := by
  intro  M hw
  refine G_iconst (pc := 61) (v := 0) hC dJ2_equalsRange_61 (by decide) ?_
  exact G_iret (pc := 62) hC rfl hQ dJ2_equalsRange_62 hw
theorem g_J2_equalsRange_29 {k : kT} {F : Nat} {a0 : Nat} {p1 : Option Nat} {p3 : Int32} {Q : Int32 → hM → Prop} (hJ : JK (kl k) (kg k)) (hC : CX k 6 cJ2_equalsRange RJ2 (some .boolean) 1 12) (hQ : isQ k (PI Q)) (hin : (kt k).name = "equalsRange") : ∀ (n : Nat) (v2 : Int32) (v4 : Option Nat) (v5 : Option Nat) (M : hM), w_J2_equalsRange_29 (kg k) F a0 p1 p3 Q n v2 v4 v5 M → GW k 6 M 29 [some (va_rf (some a0)), some (va_rf p1), some (.int v2), some (.int p3), some (va_rf v4), some (va_rf v5)] [] := by
  intro n
  induction n with
  | zero =>
    intro v2 v4 v5 M hw
    exact hw.elim
  | succ n ih =>
    intro v2 v4 v5 M hw
    refine G_iload_n (pc := 29) (i := 2) hC dJ2_equalsRange_29 rfl rfl ?_
    refine G_iload_n (pc := 30) (i := 3) hC dJ2_equalsRange_30 rfl rfl ?_
    refine G_icmp_ge (pc := 31) (tgt := 69) hC dJ2_equalsRange_31 (by decide) (fun hc => ?_) (fun hc => ?_)
    · replace hw := hw.1 hc
      refine G_aload (pc := 69) (i := 5) hC dJ2_equalsRange_69 rfl ?_
      exact hw.elim
    · replace hw := hw.2 hc
      refine G_aload (pc := 34) (i := 5) hC dJ2_equalsRange_34 rfl ?_
      exact hw.elim
theorem m_J2_equalsRange {l : Launch} {g : gT} {F : Nat} {a0 : Nat} {p1 : Option Nat} {p2 : Int32} {p3 : Int32} {M : hM} {Q : Int32 → hM → Prop} (hJ : JK l g) (hw : w_J2_equalsRange g F a0 p1 p2 p3 M Q) : MG l g yJ2_equalsRange (ws_ yJ2_equalsRange cJ2_equalsRange 6 (some .boolean)) 1 12 [va_rf (some a0), va_rf p1, .int p2, .int p3] M (PI Q) := by
  refine MG_of hJ.2.1 (by decide) (cat_r (cat_r (cat_i (cat_i cat_e)))) (Nat.le_of_ble_eq_true rfl) (fun k hl hg hin hQ hC => ?_)
  subst hl hg
  show GW k 6 M 0 [some (va_rf (some a0)), some (va_rf p1), some (.int p2), some (.int p3), none, none] []
  refine G_aload_n (pc := 0) (i := 0) hC dJ2_equalsRange_0 rfl rfl ?_
  refine G_getF (pc := 1) (ci := 21) (C := RJ2) (T := TJ2) (N := 3) (f := 1) hC rfl in_J2 (Nat.le_of_ble_eq_true rfl) q174 (fun _ h => h) dJ2_equalsRange_1 hw (fun x1 hw => ?_)
  refine G_astore (pc := 4) (i := 4) (lw := [some (va_rf (some a0)), some (va_rf p1), some (.int p2), some (.int p3), some (va_rf x1), none]) hC dJ2_equalsRange_4 (Nat.le_of_ble_eq_true rfl) rfl ?_
  refine G_iload_n (pc := 6) (i := 3) hC dJ2_equalsRange_6 rfl rfl ?_
  refine G_aload (pc := 7) (i := 4) hC dJ2_equalsRange_7 rfl ?_
  refine G_alenK (pc := 9) hJ hC dJ2_equalsRange_9 hw (fun x2 hw => ?_)
  refine G_icmp_le (pc := 10) (tgt := 21) hC dJ2_equalsRange_10 (by decide) (fun hc => ?_) (fun hc => ?_)
  · replace hw := hw.1 hc
    refine G_aload_n (pc := 21) (i := 1) hC dJ2_equalsRange_21 rfl rfl ?_
    exact hw.elim
  · replace hw := hw.2 hc
    exact hw.elim
def w_J19_intValue (g : gT) (F : Nat) (a0 : Nat) (M : hM) (Q : Int32 → hM → Prop) : Prop :=
  bxV g M (some a0) fun x1 => Q x1 M
theorem m_J19_intValue {l : Launch} {g : gT} {F : Nat} {a0 : Nat} {M : hM} {Q : Int32 → hM → Prop} (hJ : JK l g) (hw : w_J19_intValue g F a0 M Q) : MG l g yJ19_intValue (ws_ yJ19_intValue cJ19_intValue 1 (some .int)) 1 12 [va_rf (some a0)] M (PI Q) := by
  refine MG_of hJ.2.1 (by decide) (cat_r cat_e) (Nat.le_of_ble_eq_true rfl) (fun k hl hg hin hQ hC => ?_)
  subst hl hg
  show GW k 1 M 0 [some (va_rf (some a0))] []
  refine G_aload_n (pc := 0) (i := 0) hC dJ19_intValue_0 rfl rfl ?_
  refine G_getBox (pc := 1) hJ hC q1007 (fun _ h => h) dJ19_intValue_1 hw (fun x1 hw => ?_)
  exact G_iret (pc := 4) hC rfl hQ dJ19_intValue_4 hw
theorem hdK_J19_intValue : yJ19_intValue.cls = "java/lang/Integer" ∧ yJ19_intValue.cls ≠ "java/lang/invoke/MethodHandle" ∧ yJ19_intValue.cls ≠ "java/lang/invoke/VarHandle" ∧ (parseMethodDescriptor yJ19_intValue.desc).map (fun d => d.parameters.length) = some 0 := by decide +kernel
def w_J19_equals_26 (g : gT) (F : Nat) (a0 : Nat) (p1 : Option Nat) (Q : Int32 → hM → Prop) (s0 : Int32) (M : hM) : Prop :=
  ((s0 = 0 ∨ s0 = 1) ∧ Q s0 M)
def w_J19_equals (g : gT) (F : Nat) (a0 : Nat) (p1 : Option Nat) (M : hM) (Q : Int32 → hM → Prop) : Prop :=
  gBx g M p1 fun b1 => (((1 : Int32) = 0 → Q (0 : Int32) M) ∧ (¬ ((1 : Int32) = 0) → bxV g M (some a0) fun x2 => ckB g M (some b1) (((∃ z, isBox g M b1 z) ∧ w_J19_intValue g F b1  M (fun x4 M3 => ((¬ x2 = x4 → w_J19_equals_26 g F a0 p1 Q (0 : Int32) M3) ∧ (x2 = x4 → w_J19_equals_26 g F a0 p1 Q (1 : Int32) M3)))))))
theorem g_J19_equals_26 {k : kT} {F : Nat} {a0 : Nat} {p1 : Option Nat} {Q : Int32 → hM → Prop} (hJ : JK (kl k) (kg k)) (hC : CX k 2 cJ19_equals RJ19 (some .boolean) 2 32) (hQ : isQ k (PI Q)) (hin : (kt k).name = "equals") : ∀ (s0 : Int32) (M : hM), w_J19_equals_26 (kg k) F a0 p1 Q s0 M → GW k 2 M 26 [some (va_rf (some a0)), some (va_rf p1)] [.int s0] := by
  intro s0 M hw
  obtain ⟨hz, hw⟩ := hw
  exact G_iret (pc := 26) hC (nz_n hz) hQ dJ19_equals_26 hw
theorem m_J19_equals {l : Launch} {g : gT} {F : Nat} {a0 : Nat} {p1 : Option Nat} {M : hM} {Q : Int32 → hM → Prop} (hJ : JK l g) (hw : w_J19_equals g F a0 p1 M Q) : MG l g yJ19_equals (ws_ yJ19_equals cJ19_equals 2 (some .boolean)) 2 32 [va_rf (some a0), va_rf p1] M (PI Q) := by
  refine MG_of hJ.2.1 (by decide) (cat_r (cat_r cat_e)) (Nat.le_of_ble_eq_true rfl) (fun k hl hg hin hQ hC => ?_)
  subst hl hg
  show GW k 2 M 0 [some (va_rf (some a0)), some (va_rf p1)] []
  refine G_aload_n (pc := 0) (i := 1) hC dJ19_equals_0 rfl rfl ?_
  obtain ⟨b1, rfl, hb, hw⟩ := gBx_e hw
  refine G_instE (pc := 1) hC q998 (rcvB hJ.1 hC hb) dJ19_equals_1 ?_
  refine G_if_eq (pc := 4) (tgt := 27) hC dJ19_equals_4 (by decide) (fun hc => ?_) (fun hc => ?_)
  · replace hw := hw.1 hc
    refine G_iconst (pc := 27) (v := 0) hC dJ19_equals_27 (by decide) ?_
    exact G_iret (pc := 28) hC rfl hQ dJ19_equals_28 hw
  · replace hw := hw.2 hc
    refine G_aload_n (pc := 7) (i := 0) hC dJ19_equals_7 rfl rfl ?_
    refine G_getBox (pc := 8) hJ hC q1007 (fun _ h => h) dJ19_equals_8 hw (fun x2 hw => ?_)
    refine G_aload_n (pc := 11) (i := 1) hC dJ19_equals_11 rfl rfl ?_
    obtain ⟨hb, hw⟩ := hw
    refine G_castBS (pc := 12) hJ.1 hC q998 hb dJ19_equals_12 ?_
    obtain ⟨hb, hw⟩ := hw
    refine G_callV (pc := 15) (n := 0) (C := "java/lang/Integer") (b := b1) (As := []) (rest := [.int x2]) hC (m_J19_intValue hJ hw) (lw_V q1490 q988 q989 q106 q990) hdK_J19_intValue (by decide) (rcvB hJ.1 hC hb) rfl rfl (st_c (cat_i cat_e) (Nat.le_of_ble_eq_true rfl)) dJ19_equals_15 (kI fun x4 M3 hw => ?_)
    refine G_icmp_ne (pc := 18) (tgt := 25) hC dJ19_equals_18 (by decide) (fun hc => ?_) (fun hc => ?_)
    · replace hw := hw.1 hc
      refine G_iconst (pc := 25) (v := 0) hC dJ19_equals_25 (by decide) ?_
      exact g_J19_equals_26 hJ hC hQ hin  (0 : Int32) M3 hw
    · replace hw := hw.2 hc
      refine G_iconst (pc := 21) (v := 1) hC dJ19_equals_21 (by decide) ?_
      refine G_goto (pc := 22) (tgt := 26) hC dJ19_equals_22 (by decide) ?_
      exact g_J19_equals_26 hJ hC hQ hin  (1 : Int32) M3 hw
def w_J21_equals_22 (g : gT) (F : Nat) (p0 : Option Nat) (p1 : Option Nat) (Q : Int32 → hM → Prop) (s0 : Int32) (M : hM) : Prop :=
  ((s0 = 0 ∨ s0 = 1) ∧ Q s0 M)
def w_J21_equals_17 (g : gT) (F : Nat) (p0 : Option Nat) (p1 : Option Nat) (Q : Int32 → hM → Prop) (M : hM) : Prop :=
  w_J21_equals_22 g F p0 p1 Q (1 : Int32) M
def w_J21_equals_21 (g : gT) (F : Nat) (p0 : Option Nat) (p1 : Option Nat) (Q : Int32 → hM → Prop) (M : hM) : Prop :=
  w_J21_equals_22 g F p0 p1 Q (0 : Int32) M
def w_J21_equals (g : gT) (F : Nat) (p0 : Option Nat) (p1 : Option Nat) (M : hM) (Q : Int32 → hM → Prop) : Prop :=
  ((p0 = p1 → w_J21_equals_17 g F p0 p1 Q M) ∧ (¬ p0 = p1 → ((p0 = none → w_J21_equals_21 g F p0 p1 Q M) ∧ (¬ p0 = none → gBx g M p0 fun b2 => w_J19_equals g F b2 p1 M (fun x3 M1 => ((x3 = 0 → w_J21_equals_21 g F p0 p1 Q M1) ∧ (¬ (x3 = 0) → w_J21_equals_17 g F p0 p1 Q M1)))))))
theorem g_J21_equals_22 {k : kT} {F : Nat} {p0 : Option Nat} {p1 : Option Nat} {Q : Int32 → hM → Prop} (hJ : JK (kl k) (kg k)) (hC : CX k 2 cJ21_equals RJ21 (some .boolean) 3 53) (hQ : isQ k (PI Q)) (hin : (kt k).name = "equals") : ∀ (s0 : Int32) (M : hM), w_J21_equals_22 (kg k) F p0 p1 Q s0 M → GW k 2 M 22 [some (va_rf p0), some (va_rf p1)] [.int s0] := by
  intro s0 M hw
  obtain ⟨hz, hw⟩ := hw
  exact G_iret (pc := 22) hC (nz_n hz) hQ dJ21_equals_22 hw
theorem g_J21_equals_17 {k : kT} {F : Nat} {p0 : Option Nat} {p1 : Option Nat} {Q : Int32 → hM → Prop} (hJ : JK (kl k) (kg k)) (hC : CX k 2 cJ21_equals RJ21 (some .boolean) 3 53) (hQ : isQ k (PI Q)) (hin : (kt k).name = "equals") : ∀  (M : hM), w_J21_equals_17 (kg k) F p0 p1 Q  M → GW k 2 M 17 [some (va_rf p0), some (va_rf p1)] [] := by
  intro  M hw
  refine G_iconst (pc := 17) (v := 1) hC dJ21_equals_17 (by decide) ?_
  refine G_goto (pc := 18) (tgt := 22) hC dJ21_equals_18 (by decide) ?_
  exact g_J21_equals_22 hJ hC hQ hin  (1 : Int32) M hw
theorem g_J21_equals_21 {k : kT} {F : Nat} {p0 : Option Nat} {p1 : Option Nat} {Q : Int32 → hM → Prop} (hJ : JK (kl k) (kg k)) (hC : CX k 2 cJ21_equals RJ21 (some .boolean) 3 53) (hQ : isQ k (PI Q)) (hin : (kt k).name = "equals") : ∀  (M : hM), w_J21_equals_21 (kg k) F p0 p1 Q  M → GW k 2 M 21 [some (va_rf p0), some (va_rf p1)] [] := by
  intro  M hw
  refine G_iconst (pc := 21) (v := 0) hC dJ21_equals_21 (by decide) ?_
  exact g_J21_equals_22 hJ hC hQ hin  (0 : Int32) M hw
theorem m_J21_equals {l : Launch} {g : gT} {F : Nat} {p0 : Option Nat} {p1 : Option Nat} {M : hM} {Q : Int32 → hM → Prop} (hJ : JK l g) (hw : w_J21_equals g F p0 p1 M Q) : MG l g yJ21_equals (ws_ yJ21_equals cJ21_equals 2 (some .boolean)) 3 53 [va_rf p0, va_rf p1] M (PI Q) := by
  refine MG_of hJ.2.1 (by decide) (cat_r (cat_r cat_e)) (Nat.le_of_ble_eq_true rfl) (fun k hl hg hin hQ hC => ?_)
  subst hl hg
  show GW k 2 M 0 [some (va_rf p0), some (va_rf p1)] []
  refine G_aload_n (pc := 0) (i := 0) hC dJ21_equals_0 rfl rfl ?_
  refine G_aload_n (pc := 1) (i := 1) hC dJ21_equals_1 rfl rfl ?_
  refine G_acmp_eq (pc := 2) (tgt := 17) hC dJ21_equals_2 (by decide) (fun hc => ?_) (fun hc => ?_)
  · replace hw := hw.1 hc
    exact g_J21_equals_17 hJ hC hQ hin   M hw
  · replace hw := hw.2 hc
    refine G_aload_n (pc := 5) (i := 0) hC dJ21_equals_5 rfl rfl ?_
    refine G_ifnull (pc := 6) (tgt := 21) hC dJ21_equals_6 (by decide) (fun hc => ?_) (fun hc => ?_)
    · replace hw := hw.1 hc
      exact g_J21_equals_21 hJ hC hQ hin   M hw
    · replace hw := hw.2 hc
      refine G_aload_n (pc := 9) (i := 0) hC dJ21_equals_9 rfl rfl ?_
      refine G_aload_n (pc := 10) (i := 1) hC dJ21_equals_10 rfl rfl ?_
      obtain ⟨b2, rfl, hb, hw⟩ := gBx_e hw
      refine G_callO (pc := 11) (n := 1) (x := ⟨"java/lang/Object", "equals", "(Ljava/lang/Object;)Z"⟩) (owner := "java/lang/Object") (C := "java/lang/Integer") (b := b2) (As := [va_rf p1]) (rest := []) hC (m_J19_equals hJ hw) (lw_O q1458 q1460 q1459 q1487 q1488 q106 q1489) q1502 (rcvB hJ.1 hC hb) (by decide +kernel) (by decide) rfl rfl (st_c cat_e (Nat.le_of_ble_eq_true rfl)) dJ21_equals_11 (kI fun x3 M1 hw => ?_)
      refine G_if_eq (pc := 14) (tgt := 21) hC dJ21_equals_14 (by decide) (fun hc => ?_) (fun hc => ?_)
      · replace hw := hw.1 hc
        exact g_J21_equals_21 hJ hC hQ hin   M1 hw
      · replace hw := hw.2 hc
        exact g_J21_equals_17 hJ hC hQ hin   M1 hw
theorem hdK_J21_equals : yJ21_equals.cls = "java/util/Objects" ∧ yJ21_equals.cls ≠ "java/lang/invoke/MethodHandle" ∧ yJ21_equals.cls ≠ "java/lang/invoke/VarHandle" ∧ (parseMethodDescriptor yJ21_equals.desc).map (fun d => d.parameters.length) = some 2 := by decide +kernel
theorem hdK_J2_checkForComodification : yJ2_checkForComodification.cls = "java/util/ArrayList" ∧ yJ2_checkForComodification.cls ≠ "java/lang/invoke/MethodHandle" ∧ yJ2_checkForComodification.cls ≠ "java/lang/invoke/VarHandle" ∧ (parseMethodDescriptor yJ2_checkForComodification.desc).map (fun d => d.parameters.length) = some 1 := by decide +kernel
def w_J2_equalsArrayList_100 (g : gT) (F : Nat) (a0 : Nat) (p1 : Option Nat) (Q : Int32 → hM → Prop) (v2 : Int32) (v4 : Int32) (M : hM) : Prop :=
  gThis M p1 21 fun b2 => w_J2_checkForComodification g F b2 v2 M (fun M1 => ((v4 = 0 ∨ v4 = 1) ∧ Q v4 M1))
def w_J2_equalsArrayList_55 (g : gT) (F : Nat) (a0 : Nat) (p1 : Option Nat) (Q : Int32 → hM → Prop) (M : hM) : Prop :=
  False
def w_J2_equalsArrayList_66 (g : gT) (F : Nat) (a0 : Nat) (p1 : Option Nat) (Q : Int32 → hM → Prop) : Nat → Int32 → Int32 → Int32 → (Option Nat) → (Option Nat) → Int32 → hM → Prop
  | 0, _, _, _, _, _, _, _ => False
  | n + 1, v2, v3, v4, v5, v6, v7, M => ((v3 ≤ v7 → w_J2_equalsArrayList_100 g F a0 p1 Q v2 v4 M) ∧ (¬ (v3 ≤ v7) → aR M v6 v7 fun x1 => aR M v5 v7 fun x2 => w_J21_equals g F x1 x2 M (fun x4 M3 => ((¬ x4 = 0 → w_J2_equalsArrayList_66 g F a0 p1 Q n v2 v3 v4 v5 v6 (v7 + (1 : Int32)) M3) ∧ (x4 = 0 → w_J2_equalsArrayList_100 g F a0 p1 Q v2 (0 : Int32) M3)))))
def w_J2_equalsArrayList_23 (g : gT) (F : Nat) (a0 : Nat) (p1 : Option Nat) (Q : Int32 → hM → Prop) (v2 : Int32) (v3 : Int32) (s0 : Int32) (M : hM) : Prop :=
  ((s0 = 0 → w_J2_equalsArrayList_100 g F a0 p1 Q v2 s0 M) ∧ (¬ (s0 = 0) → gF M p1 21 1 fun x1 => gF M (some a0) 21 1 fun x2 => aLenK g M x2 fun x3 => ((x3 < v3 → w_J2_equalsArrayList_55 g F a0 p1 Q M) ∧ (¬ (x3 < v3) → aLenK g M x1 fun x4 => ((v3 ≤ x4 → w_J2_equalsArrayList_66 g F a0 p1 Q F v2 v3 s0 x1 x2 (0 : Int32) M) ∧ (¬ (v3 ≤ x4) → w_J2_equalsArrayList_55 g F a0 p1 Q M))))))
def w_J2_equalsArrayList (g : gT) (F : Nat) (a0 : Nat) (p1 : Option Nat) (M : hM) (Q : Int32 → hM → Prop) : Prop :=
  gI M p1 21 0 fun x1 => gI M (some a0) 21 2 fun x2 => gI M p1 21 2 fun x3 => ((¬ x2 = x3 → w_J2_equalsArrayList_23 g F a0 p1 Q x1 x2 (0 : Int32) M) ∧ (x2 = x3 → w_J2_equalsArrayList_23 g F a0 p1 Q x1 x2 (1 : Int32) M))
theorem g_J2_equalsArrayList_100 {k : kT} {F : Nat} {a0 : Nat} {p1 : Option Nat} {Q : Int32 → hM → Prop} (hJ : JK (kl k) (kg k)) (hC : CX k 8 cJ2_equalsArrayList RJ2 (some .boolean) 4 74) (hQ : isQ k (PI Q)) (hin : (kt k).name = "equalsArrayList") : ∀ (v2 : Int32) (v4 : Int32) (M : hM), w_J2_equalsArrayList_100 (kg k) F a0 p1 Q v2 v4 M → GW k 8 M 100 [some (va_rf (some a0)), some (va_rf p1), some (.int v2), none, some (.int v4), none, none, none] [] := by
  intro v2 v4 M hw
  refine G_aload_n (pc := 100) (i := 1) hC dJ2_equalsArrayList_100 rfl rfl ?_
  refine G_iload_n (pc := 101) (i := 2) hC dJ2_equalsArrayList_101 rfl rfl ?_
  obtain ⟨b2, rfl, hb, hw⟩ := gThis_e hw
  refine G_callV (pc := 102) (n := 1) (C := "java/util/ArrayList") (b := b2) (As := [.int v2]) (rest := []) hC (m_J2_checkForComodification hJ hw) (lw_V q1503 q1505 qs16 q87 q1506) hdK_J2_checkForComodification (by decide) (rcv (C := RJ2) (T := TJ2) (N := 3) hC hb rfl) rfl rfl (st_c cat_e (Nat.le_of_ble_eq_true rfl)) dJ2_equalsArrayList_102 (kU fun M1 hw => ?_)
  refine G_iload (pc := 105) (i := 4) hC dJ2_equalsArrayList_105 rfl ?_
  obtain ⟨hz, hw⟩ := hw
  exact G_iret (pc := 107) hC (nz_n hz) hQ dJ2_equalsArrayList_107 hw
theorem g_J2_equalsArrayList_55 {k : kT} {F : Nat} {a0 : Nat} {p1 : Option Nat} {Q : Int32 → hM → Prop} (hJ : JK (kl k) (kg k)) (hC : CX k 8 cJ2_equalsArrayList RJ2 (some .boolean) 4 74) (hQ : isQ k (PI Q)) (hin : (kt k).name = "equalsArrayList") : ∀  (M : hM), w_J2_equalsArrayList_55 (kg k) F a0 p1 Q  M → GW k 8 M 55 [some (va_rf (some a0)), some (va_rf p1), none, none, none, none, none, none] [] := by
  intro  M hw
  exact hw.elim
theorem g_J2_equalsArrayList_66 {k : kT} {F : Nat} {a0 : Nat} {p1 : Option Nat} {Q : Int32 → hM → Prop} (hJ : JK (kl k) (kg k)) (hC : CX k 8 cJ2_equalsArrayList RJ2 (some .boolean) 4 74) (hQ : isQ k (PI Q)) (hin : (kt k).name = "equalsArrayList") : ∀ (n : Nat) (v2 : Int32) (v3 : Int32) (v4 : Int32) (v5 : Option Nat) (v6 : Option Nat) (v7 : Int32) (M : hM), w_J2_equalsArrayList_66 (kg k) F a0 p1 Q n v2 v3 v4 v5 v6 v7 M → GW k 8 M 66 [some (va_rf (some a0)), some (va_rf p1), some (.int v2), some (.int v3), some (.int v4), some (va_rf v5), some (va_rf v6), some (.int v7)] [] := by
  intro n
  induction n with
  | zero =>
    intro v2 v3 v4 v5 v6 v7 M hw
    exact hw.elim
  | succ n ih =>
    intro v2 v3 v4 v5 v6 v7 M hw
    refine G_iload (pc := 66) (i := 7) hC dJ2_equalsArrayList_66 rfl ?_
    refine G_iload_n (pc := 68) (i := 3) hC dJ2_equalsArrayList_68 rfl rfl ?_
    refine G_icmp_ge (pc := 69) (tgt := 100) hC dJ2_equalsArrayList_69 (by decide) (fun hc => ?_) (fun hc => ?_)
    · replace hw := hw.1 hc
      refine G_loc (lv' := [some (va_rf (some a0)), some (va_rf p1), some (.int v2), none, some (.int v4), none, none, none]) ⟨Or.inr rfl, Or.inr rfl, Or.inr rfl, Or.inl rfl, Or.inr rfl, Or.inl rfl, Or.inl rfl, Or.inl rfl, trivial⟩ ?_
      exact g_J2_equalsArrayList_100 hJ hC hQ hin  v2 v4 M hw
    · replace hw := hw.2 hc
      refine G_aload (pc := 72) (i := 6) hC dJ2_equalsArrayList_72 rfl ?_
      refine G_iload (pc := 74) (i := 7) hC dJ2_equalsArrayList_74 rfl ?_
      refine G_aald (pc := 76) hC dJ2_equalsArrayList_76 hw (fun x1 hw => ?_)
      refine G_aload (pc := 77) (i := 5) hC dJ2_equalsArrayList_77 rfl ?_
      refine G_iload (pc := 79) (i := 7) hC dJ2_equalsArrayList_79 rfl ?_
      refine G_aald (pc := 81) hC dJ2_equalsArrayList_81 hw (fun x2 hw => ?_)
      refine G_callS (pc := 82) (n := 2) (As := [va_rf x1, va_rf x2]) (rest := []) hC (m_J21_equals hJ hw) (lw_S q1454 q1455 q109 q1456) hdK_J21_equals.2 (by decide) rfl rfl (st_c cat_e (Nat.le_of_ble_eq_true rfl)) dJ2_equalsArrayList_82 (kI fun x4 M3 hw => ?_)
      refine G_if_ne (pc := 85) (tgt := 94) hC dJ2_equalsArrayList_85 (by decide) (fun hc => ?_) (fun hc => ?_)
      · replace hw := hw.1 hc
        refine G_iinc (pc := 94) (i := 7) (v := (v7 + (1 : Int32))) (lw := [some (va_rf (some a0)), some (va_rf p1), some (.int v2), some (.int v3), some (.int v4), some (va_rf v5), some (va_rf v6), some (.int (v7 + (1 : Int32)))]) hC dJ2_equalsArrayList_94 rfl (Nat.le_of_ble_eq_true rfl) rfl rfl ?_
        refine G_goto (pc := 97) (tgt := 66) hC dJ2_equalsArrayList_97 (by decide) ?_
        exact ih v2 v3 v4 v5 v6 (v7 + (1 : Int32)) M3 hw
      · replace hw := hw.2 hc
        refine G_iconst (pc := 88) (v := 0) hC dJ2_equalsArrayList_88 (by decide) ?_
        refine G_istore (pc := 89) (i := 4) (lw := [some (va_rf (some a0)), some (va_rf p1), some (.int v2), some (.int v3), some (.int (0 : Int32)), some (va_rf v5), some (va_rf v6), some (.int v7)]) hC dJ2_equalsArrayList_89 (Nat.le_of_ble_eq_true rfl) rfl ?_
        refine G_goto (pc := 91) (tgt := 100) hC dJ2_equalsArrayList_91 (by decide) ?_
        refine G_loc (lv' := [some (va_rf (some a0)), some (va_rf p1), some (.int v2), none, some (.int (0 : Int32)), none, none, none]) ⟨Or.inr rfl, Or.inr rfl, Or.inr rfl, Or.inl rfl, Or.inr rfl, Or.inl rfl, Or.inl rfl, Or.inl rfl, trivial⟩ ?_
        exact g_J2_equalsArrayList_100 hJ hC hQ hin  v2 (0 : Int32) M3 hw
theorem g_J2_equalsArrayList_23 {k : kT} {F : Nat} {a0 : Nat} {p1 : Option Nat} {Q : Int32 → hM → Prop} (hJ : JK (kl k) (kg k)) (hC : CX k 8 cJ2_equalsArrayList RJ2 (some .boolean) 4 74) (hQ : isQ k (PI Q)) (hin : (kt k).name = "equalsArrayList") : ∀ (v2 : Int32) (v3 : Int32) (s0 : Int32) (M : hM), w_J2_equalsArrayList_23 (kg k) F a0 p1 Q v2 v3 s0 M → GW k 8 M 23 [some (va_rf (some a0)), some (va_rf p1), some (.int v2), some (.int v3), none, none, none, none] [.int s0] := by
  intro v2 v3 s0 M hw
  refine G_dup (pc := 23) hC dJ2_equalsArrayList_23 rfl ?_
  refine G_istore (pc := 24) (i := 4) (lw := [some (va_rf (some a0)), some (va_rf p1), some (.int v2), some (.int v3), some (.int s0), none, none, none]) hC dJ2_equalsArrayList_24 (Nat.le_of_ble_eq_true rfl) rfl ?_
  refine G_if_eq (pc := 26) (tgt := 100) hC dJ2_equalsArrayList_26 (by decide) (fun hc => ?_) (fun hc => ?_)
  · replace hw := hw.1 hc
    refine G_loc (lv' := [some (va_rf (some a0)), some (va_rf p1), some (.int v2), none, some (.int s0), none, none, none]) ⟨Or.inr rfl, Or.inr rfl, Or.inr rfl, Or.inl rfl, Or.inr rfl, Or.inr rfl, Or.inr rfl, Or.inr rfl, trivial⟩ ?_
    exact g_J2_equalsArrayList_100 hJ hC hQ hin  v2 s0 M hw
  · replace hw := hw.2 hc
    refine G_aload_n (pc := 29) (i := 1) hC dJ2_equalsArrayList_29 rfl rfl ?_
    refine G_getF (pc := 30) (ci := 21) (C := RJ2) (T := TJ2) (N := 3) (f := 1) hC rfl in_J2 (Nat.le_of_ble_eq_true rfl) q174 (fun _ h => h) dJ2_equalsArrayList_30 hw (fun x1 hw => ?_)
    refine G_astore (pc := 33) (i := 5) (lw := [some (va_rf (some a0)), some (va_rf p1), some (.int v2), some (.int v3), some (.int s0), some (va_rf x1), none, none]) hC dJ2_equalsArrayList_33 (Nat.le_of_ble_eq_true rfl) rfl ?_
    refine G_aload_n (pc := 35) (i := 0) hC dJ2_equalsArrayList_35 rfl rfl ?_
    refine G_getF (pc := 36) (ci := 21) (C := RJ2) (T := TJ2) (N := 3) (f := 1) hC rfl in_J2 (Nat.le_of_ble_eq_true rfl) q174 (fun _ h => h) dJ2_equalsArrayList_36 hw (fun x2 hw => ?_)
    refine G_astore (pc := 39) (i := 6) (lw := [some (va_rf (some a0)), some (va_rf p1), some (.int v2), some (.int v3), some (.int s0), some (va_rf x1), some (va_rf x2), none]) hC dJ2_equalsArrayList_39 (Nat.le_of_ble_eq_true rfl) rfl ?_
    refine G_iload_n (pc := 41) (i := 3) hC dJ2_equalsArrayList_41 rfl rfl ?_
    refine G_aload (pc := 42) (i := 6) hC dJ2_equalsArrayList_42 rfl ?_
    refine G_alenK (pc := 44) hJ hC dJ2_equalsArrayList_44 hw (fun x3 hw => ?_)
    refine G_icmp_gt (pc := 45) (tgt := 55) hC dJ2_equalsArrayList_45 (by decide) (fun hc => ?_) (fun hc => ?_)
    · replace hw := hw.1 hc
      refine G_loc (lv' := [some (va_rf (some a0)), some (va_rf p1), none, none, none, none, none, none]) ⟨Or.inr rfl, Or.inr rfl, Or.inl rfl, Or.inl rfl, Or.inl rfl, Or.inl rfl, Or.inl rfl, Or.inr rfl, trivial⟩ ?_
      exact g_J2_equalsArrayList_55 hJ hC hQ hin   M hw
    · replace hw := hw.2 hc
      refine G_iload_n (pc := 48) (i := 3) hC dJ2_equalsArrayList_48 rfl rfl ?_
      refine G_aload (pc := 49) (i := 5) hC dJ2_equalsArrayList_49 rfl ?_
      refine G_alenK (pc := 51) hJ hC dJ2_equalsArrayList_51 hw (fun x4 hw => ?_)
      refine G_icmp_le (pc := 52) (tgt := 63) hC dJ2_equalsArrayList_52 (by decide) (fun hc => ?_) (fun hc => ?_)
      · replace hw := hw.1 hc
        refine G_iconst (pc := 63) (v := 0) hC dJ2_equalsArrayList_63 (by decide) ?_
        refine G_istore (pc := 64) (i := 7) (lw := [some (va_rf (some a0)), some (va_rf p1), some (.int v2), some (.int v3), some (.int s0), some (va_rf x1), some (va_rf x2), some (.int (0 : Int32))]) hC dJ2_equalsArrayList_64 (Nat.le_of_ble_eq_true rfl) rfl ?_
        exact g_J2_equalsArrayList_66 hJ hC hQ hin _ v2 v3 s0 x1 x2 (0 : Int32) M hw
      · replace hw := hw.2 hc
        refine G_loc (lv' := [some (va_rf (some a0)), some (va_rf p1), none, none, none, none, none, none]) ⟨Or.inr rfl, Or.inr rfl, Or.inl rfl, Or.inl rfl, Or.inl rfl, Or.inl rfl, Or.inl rfl, Or.inr rfl, trivial⟩ ?_
        exact g_J2_equalsArrayList_55 hJ hC hQ hin   M hw
theorem m_J2_equalsArrayList {l : Launch} {g : gT} {F : Nat} {a0 : Nat} {p1 : Option Nat} {M : hM} {Q : Int32 → hM → Prop} (hJ : JK l g) (hw : w_J2_equalsArrayList g F a0 p1 M Q) : MG l g yJ2_equalsArrayList (ws_ yJ2_equalsArrayList cJ2_equalsArrayList 8 (some .boolean)) 4 74 [va_rf (some a0), va_rf p1] M (PI Q) := by
  refine MG_of hJ.2.1 (by decide) (cat_r (cat_r cat_e)) (Nat.le_of_ble_eq_true rfl) (fun k hl hg hin hQ hC => ?_)
  subst hl hg
  show GW k 8 M 0 [some (va_rf (some a0)), some (va_rf p1), none, none, none, none, none, none] []
  refine G_aload_n (pc := 0) (i := 1) hC dJ2_equalsArrayList_0 rfl rfl ?_
  refine G_getI (pc := 1) (ci := 21) (C := RJ2) (T := TJ2) (N := 3) (f := 0) hC rfl in_J2 (Nat.le_of_ble_eq_true rfl) q183 (fun x h => u_same (hC.ts _ q180) x h) dJ2_equalsArrayList_1 hw (fun x1 hw => ?_)
  refine G_istore_n (pc := 4) (i := 2) (lw := [some (va_rf (some a0)), some (va_rf p1), some (.int x1), none, none, none, none, none]) hC dJ2_equalsArrayList_4 rfl (Nat.le_of_ble_eq_true rfl) rfl ?_
  refine G_aload_n (pc := 5) (i := 0) hC dJ2_equalsArrayList_5 rfl rfl ?_
  refine G_getI (pc := 6) (ci := 21) (C := RJ2) (T := TJ2) (N := 3) (f := 2) hC rfl in_J2 (Nat.le_of_ble_eq_true rfl) q177 (fun _ h => h) dJ2_equalsArrayList_6 hw (fun x2 hw => ?_)
  refine G_istore_n (pc := 9) (i := 3) (lw := [some (va_rf (some a0)), some (va_rf p1), some (.int x1), some (.int x2), none, none, none, none]) hC dJ2_equalsArrayList_9 rfl (Nat.le_of_ble_eq_true rfl) rfl ?_
  refine G_iload_n (pc := 10) (i := 3) hC dJ2_equalsArrayList_10 rfl rfl ?_
  refine G_aload_n (pc := 11) (i := 1) hC dJ2_equalsArrayList_11 rfl rfl ?_
  refine G_getI (pc := 12) (ci := 21) (C := RJ2) (T := TJ2) (N := 3) (f := 2) hC rfl in_J2 (Nat.le_of_ble_eq_true rfl) q177 (fun _ h => h) dJ2_equalsArrayList_12 hw (fun x3 hw => ?_)
  refine G_icmp_ne (pc := 15) (tgt := 22) hC dJ2_equalsArrayList_15 (by decide) (fun hc => ?_) (fun hc => ?_)
  · replace hw := hw.1 hc
    refine G_iconst (pc := 22) (v := 0) hC dJ2_equalsArrayList_22 (by decide) ?_
    exact g_J2_equalsArrayList_23 hJ hC hQ hin  x1 x2 (0 : Int32) M hw
  · replace hw := hw.2 hc
    refine G_iconst (pc := 18) (v := 1) hC dJ2_equalsArrayList_18 (by decide) ?_
    refine G_goto (pc := 19) (tgt := 23) hC dJ2_equalsArrayList_19 (by decide) ?_
    exact g_J2_equalsArrayList_23 hJ hC hQ hin  x1 x2 (1 : Int32) M hw
theorem hdK_J2_equalsArrayList : yJ2_equalsArrayList.cls = "java/util/ArrayList" ∧ yJ2_equalsArrayList.cls ≠ "java/lang/invoke/MethodHandle" ∧ yJ2_equalsArrayList.cls ≠ "java/lang/invoke/VarHandle" ∧ (parseMethodDescriptor yJ2_equalsArrayList.desc).map (fun d => d.parameters.length) = some 1 := by decide +kernel
theorem hdK_J2_equalsRange : yJ2_equalsRange.cls = "java/util/ArrayList" ∧ yJ2_equalsRange.cls ≠ "java/lang/invoke/MethodHandle" ∧ yJ2_equalsRange.cls ≠ "java/lang/invoke/VarHandle" ∧ (parseMethodDescriptor yJ2_equalsRange.desc).map (fun d => d.parameters.length) = some 3 := by decide +kernel
def w_J2_equals_54 (g : gT) (F : Nat) (a0 : Nat) (p1 : Option Nat) (Q : Int32 → hM → Prop) (v2 : Int32) (s0 : Int32) (M : hM) : Prop :=
  (isC M a0 21 ∧ w_J2_checkForComodification g F a0 v2 M (fun M1 => ((s0 = 0 ∨ s0 = 1) ∧ Q s0 M1)))
def w_J2_equals (g : gT) (F : Nat) (a0 : Nat) (p1 : Option Nat) (M : hM) (Q : Int32 → hM → Prop) : Prop :=
  ((¬ p1 = (some a0) → gThis M p1 21 fun b1 => ((¬ (1 : Int32) = 0 → gI M (some a0) 21 0 fun x2 => (isC M b1 21 ∧ ((¬ (some (gK g 261)) = (some (gK g 261)) → ckC M (some b1) 21 (gI M (some a0) 21 2 fun x3 => (isC M a0 21 ∧ w_J2_equalsRange g F a0 (some b1) (0 : Int32) x3 M (fun x5 M4 => w_J2_equals_54 g F a0 p1 Q x2 x5 M4)))) ∧ ((some (gK g 261)) = (some (gK g 261)) → ckC M (some b1) 21 ((isC M a0 21 ∧ w_J2_equalsArrayList g F a0 (some b1) M (fun x7 M6 => w_J2_equals_54 g F a0 p1 Q x2 x7 M6))))))) ∧ ((1 : Int32) = 0 → Q (0 : Int32) M))) ∧ (p1 = (some a0) → Q (1 : Int32) M))
theorem g_J2_equals_54 {k : kT} {F : Nat} {a0 : Nat} {p1 : Option Nat} {Q : Int32 → hM → Prop} (hJ : JK (kl k) (kg k)) (hC : CX k 4 cJ2_equals RJ2 (some .boolean) 5 101) (hQ : isQ k (PI Q)) (hin : (kt k).name = "equals") : ∀ (v2 : Int32) (s0 : Int32) (M : hM), w_J2_equals_54 (kg k) F a0 p1 Q v2 s0 M → GW k 4 M 54 [some (va_rf (some a0)), some (va_rf p1), some (.int v2), none] [.int s0] := by
  intro v2 s0 M hw
  refine G_istore_n (pc := 54) (i := 3) (lw := [some (va_rf (some a0)), some (va_rf p1), some (.int v2), some (.int s0)]) hC dJ2_equals_54 rfl (Nat.le_of_ble_eq_true rfl) rfl ?_
  refine G_aload_n (pc := 55) (i := 0) hC dJ2_equals_55 rfl rfl ?_
  refine G_iload_n (pc := 56) (i := 2) hC dJ2_equals_56 rfl rfl ?_
  obtain ⟨hb, hw⟩ := hw
  refine G_callV (pc := 57) (n := 1) (C := "java/util/ArrayList") (b := a0) (As := [.int v2]) (rest := []) hC (m_J2_checkForComodification hJ hw) (lw_V q1503 q1505 qs16 q87 q1506) hdK_J2_checkForComodification (by decide) (rcv (C := RJ2) (T := TJ2) (N := 3) hC hb rfl) rfl rfl (st_c cat_e (Nat.le_of_ble_eq_true rfl)) dJ2_equals_57 (kU fun M1 hw => ?_)
  refine G_iload_n (pc := 60) (i := 3) hC dJ2_equals_60 rfl rfl ?_
  obtain ⟨hz, hw⟩ := hw
  exact G_iret (pc := 61) hC (nz_n hz) hQ dJ2_equals_61 hw
theorem m_J2_equals {l : Launch} {g : gT} {F : Nat} {a0 : Nat} {p1 : Option Nat} {M : hM} {Q : Int32 → hM → Prop} (hJ : JK l g) (hw : w_J2_equals g F a0 p1 M Q) : MG l g yJ2_equals (ws_ yJ2_equals cJ2_equals 4 (some .boolean)) 5 101 [va_rf (some a0), va_rf p1] M (PI Q) := by
  refine MG_of hJ.2.1 (by decide) (cat_r (cat_r cat_e)) (Nat.le_of_ble_eq_true rfl) (fun k hl hg hin hQ hC => ?_)
  subst hl hg
  show GW k 4 M 0 [some (va_rf (some a0)), some (va_rf p1), none, none] []
  refine G_aload_n (pc := 0) (i := 1) hC dJ2_equals_0 rfl rfl ?_
  refine G_aload_n (pc := 1) (i := 0) hC dJ2_equals_1 rfl rfl ?_
  refine G_acmp_ne (pc := 2) (tgt := 7) hC dJ2_equals_2 (by decide) (fun hc => ?_) (fun hc => ?_)
  · replace hw := hw.1 hc
    refine G_aload_n (pc := 7) (i := 1) hC dJ2_equals_7 rfl rfl ?_
    obtain ⟨b1, rfl, hb, hw⟩ := gThis_e hw
    refine G_instY (pc := 8) hC q1448 (nw_in q259 rfl) (rcv (C := RJ2) (T := TJ2) (N := 3) hC hb rfl) dJ2_equals_8 ?_
    refine G_if_ne (pc := 11) (tgt := 16) hC dJ2_equals_11 (by decide) (fun hc => ?_) (fun hc => ?_)
    · replace hw := hw.1 hc
      refine G_aload_n (pc := 16) (i := 0) hC dJ2_equals_16 rfl rfl ?_
      refine G_getI (pc := 17) (ci := 21) (C := RJ2) (T := TJ2) (N := 3) (f := 0) hC rfl in_J2 (Nat.le_of_ble_eq_true rfl) q183 (fun x h => u_same (hC.ts _ q180) x h) dJ2_equals_17 hw (fun x2 hw => ?_)
      refine G_istore_n (pc := 20) (i := 2) (lw := [some (va_rf (some a0)), some (va_rf (some b1)), some (.int x2), none]) hC dJ2_equals_20 rfl (Nat.le_of_ble_eq_true rfl) rfl ?_
      refine G_aload_n (pc := 21) (i := 1) hC dJ2_equals_21 rfl rfl ?_
      obtain ⟨hb, hw⟩ := hw
      refine G_getClL (pc := 22) hJ hC q1449 (nw_in q1174 rfl) q327 q291 q339 (st_c cat_e (Nat.le_of_ble_eq_true rfl)) rfl rfl dJ2_equals_22 (rcv (C := RJ2) (T := TJ2) (N := 3) hC hb rfl) ?_
      refine G_ldcM (pc := 25) hC q1180 (hC.sK hJ).2.2.2.2.2.2.2.2.2.2.2.2.2.1 dJ2_equals_25 ?_
      refine G_acmp_ne (pc := 27) (tgt := 41) hC dJ2_equals_27 (by decide) (fun hc => ?_) (fun hc => ?_)
      · replace hw := hw.1 hc
        refine G_aload_n (pc := 41) (i := 0) hC dJ2_equals_41 rfl rfl ?_
        refine G_aload_n (pc := 42) (i := 1) hC dJ2_equals_42 rfl rfl ?_
        obtain ⟨hb, hw⟩ := hw
        refine G_castC (pc := 43) (C := RJ2) (T := TJ2) (N := 3) (nm := "java/util/List") hC rfl q1448 (nw_in q259 rfl) hb dJ2_equals_43 ?_
        refine G_iconst (pc := 46) (v := 0) hC dJ2_equals_46 (by decide) ?_
        refine G_aload_n (pc := 47) (i := 0) hC dJ2_equals_47 rfl rfl ?_
        refine G_getI (pc := 48) (ci := 21) (C := RJ2) (T := TJ2) (N := 3) (f := 2) hC rfl in_J2 (Nat.le_of_ble_eq_true rfl) q177 (fun _ h => h) dJ2_equals_48 hw (fun x3 hw => ?_)
        obtain ⟨hb, hw⟩ := hw
        refine G_callV (pc := 51) (n := 3) (C := "java/util/ArrayList") (b := a0) (As := [va_rf (some b1), .int (0 : Int32), .int x3]) (rest := []) hC (m_J2_equalsRange hJ hw) (lw_V q1507 q1508 q1509 q87 q1510) hdK_J2_equalsRange (by decide) (rcv (C := RJ2) (T := TJ2) (N := 3) hC hb rfl) rfl rfl (st_c cat_e (Nat.le_of_ble_eq_true rfl)) dJ2_equals_51 (kI fun x5 M4 hw => ?_)
        exact g_J2_equals_54 hJ hC hQ hin  x2 x5 M4 hw
      · replace hw := hw.2 hc
        refine G_aload_n (pc := 30) (i := 0) hC dJ2_equals_30 rfl rfl ?_
        refine G_aload_n (pc := 31) (i := 1) hC dJ2_equals_31 rfl rfl ?_
        obtain ⟨hb, hw⟩ := hw
        refine G_castCS (pc := 32) (C := RJ2) (T := TJ2) (N := 3) hC rfl q1180 hb dJ2_equals_32 ?_
        obtain ⟨hb, hw⟩ := hw
        refine G_callV (pc := 35) (n := 1) (C := "java/util/ArrayList") (b := a0) (As := [va_rf (some b1)]) (rest := []) hC (m_J2_equalsArrayList hJ hw) (lw_V q1450 q1452 qs15 q87 q1453) hdK_J2_equalsArrayList (by decide) (rcv (C := RJ2) (T := TJ2) (N := 3) hC hb rfl) rfl rfl (st_c cat_e (Nat.le_of_ble_eq_true rfl)) dJ2_equals_35 (kI fun x7 M6 hw => ?_)
        refine G_goto (pc := 38) (tgt := 54) hC dJ2_equals_38 (by decide) ?_
        exact g_J2_equals_54 hJ hC hQ hin  x2 x7 M6 hw
    · replace hw := hw.2 hc
      refine G_iconst (pc := 14) (v := 0) hC dJ2_equals_14 (by decide) ?_
      exact G_iret (pc := 15) hC rfl hQ dJ2_equals_15 hw
  · replace hw := hw.2 hc
    refine G_iconst (pc := 5) (v := 1) hC dJ2_equals_5 (by decide) ?_
    exact G_iret (pc := 6) hC rfl hQ dJ2_equals_6 hw
def w_J24_init (g : gT) (F : Nat) (a0 : Nat) (p1 : Option Nat) (M : hM) (Q : hM → Prop) : Prop :=
  pV M (some a0) 26 3 (va_rf p1) fun M1 => pV M1 (some a0) 26 1 (.int (-1 : Int32)) fun M2 => gF M2 (some a0) 26 3 fun x3 => gI M2 x3 21 0 fun x4 => pV M2 (some a0) 26 2 (.int x4) fun M5 => Q M5
theorem m_J24_init {l : Launch} {g : gT} {F : Nat} {a0 : Nat} {p1 : Option Nat} {M : hM} {Q : hM → Prop} (hJ : JK l g) (hw : w_J24_init g F a0 p1 M Q) : MG l g yJ24_init (ws_ yJ24_init cJ24_init 2 none) 1 20 [va_rf (some a0), va_rf p1] M (PU Q) := by
  refine MG_of hJ.2.1 (by decide) (cat_r (cat_r cat_e)) (Nat.le_of_ble_eq_true rfl) (fun k hl hg hin hQ hC => ?_)
  subst hl hg
  show GW k 2 M 0 [some (va_rf (some a0)), some (va_rf p1)] []
  refine G_aload_n (pc := 0) (i := 0) hC dJ24_init_0 rfl rfl ?_
  refine G_aload_n (pc := 1) (i := 1) hC dJ24_init_1 rfl rfl ?_
  refine G_putF (pc := 2) (ci := 26) (C := RJ24) (T := TJ24) (N := 4) (f := 3) tyJ24 hC rfl in_J24 tyJ24_ok nmJ24 (Nat.le_of_ble_eq_true rfl) q818 (fun _ h => h) rfl hin rfl (nR_o _ _) (fR_o _ _) dJ24_init_2 hw (fun M1 hw => ?_)
  refine G_aload_n (pc := 5) (i := 0) hC dJ24_init_5 rfl rfl ?_
  refine G_objInit (pc := 6) hC q810 q158 q159 rfl rfl (st_c cat_e (Nat.le_of_ble_eq_true rfl)) dJ24_init_6 ?_
  refine G_aload_n (pc := 9) (i := 0) hC dJ24_init_9 rfl rfl ?_
  refine G_iconst (pc := 10) (v := -1) hC dJ24_init_10 (by decide) ?_
  refine G_put (pc := 11) (ci := 26) (C := RJ24) (T := TJ24) (N := 4) (f := 1) tyJ24 hC rfl in_J24 tyJ24_ok nmJ24 (Nat.le_of_ble_eq_true rfl) q814 (fun _ h => h) rfl rfl rfl dJ24_init_11 hw (fun M2 hw => ?_)
  refine G_aload_n (pc := 14) (i := 0) hC dJ24_init_14 rfl rfl ?_
  refine G_aload_n (pc := 15) (i := 0) hC dJ24_init_15 rfl rfl ?_
  refine G_getF (pc := 16) (ci := 26) (C := RJ24) (T := TJ24) (N := 4) (f := 3) hC rfl in_J24 (Nat.le_of_ble_eq_true rfl) q818 (fun _ h => h) dJ24_init_16 hw (fun x3 hw => ?_)
  refine G_getI (pc := 19) (ci := 21) (C := RJ2) (T := TJ2) (N := 3) (f := 0) hC rfl in_J2 (Nat.le_of_ble_eq_true rfl) q179 (fun x h => u_same (hC.ts _ q180) x h) dJ24_init_19 hw (fun x4 hw => ?_)
  refine G_put (pc := 22) (ci := 26) (C := RJ24) (T := TJ24) (N := 4) (f := 2) tyJ24 hC rfl in_J24 tyJ24_ok nmJ24 (Nat.le_of_ble_eq_true rfl) q817 (fun _ h => h) rfl rfl rfl dJ24_init_22 hw (fun M5 hw => ?_)
  exact G_ret (pc := 25) hC hQ dJ24_init_25 hw
theorem hdK_J24_init : yJ24_init.cls = "java/util/ArrayList$Itr" ∧ yJ24_init.cls ≠ "java/lang/invoke/MethodHandle" ∧ yJ24_init.cls ≠ "java/lang/invoke/VarHandle" ∧ (parseMethodDescriptor yJ24_init.desc).map (fun d => d.parameters.length) = some 1 := by decide +kernel
def w_J2_iterator (g : gT) (F : Nat) (a0 : Nat) (M : hM) (Q : Option Nat → hM → Prop) : Prop :=
  nW M 26 fsJ24 fun q1 M2 => (isC M2 q1 26 ∧ w_J24_init g F q1 (some a0) M2 (fun M3 => Q (some q1) M3))
theorem m_J2_iterator {l : Launch} {g : gT} {F : Nat} {a0 : Nat} {M : hM} {Q : Option Nat → hM → Prop} (hJ : JK l g) (hw : w_J2_iterator g F a0 M Q) : MG l g yJ2_iterator (ws_ yJ2_iterator cJ2_iterator 1 (some (.object "java/util/Iterator"))) 2 41 [va_rf (some a0)] M (PR Q) := by
  refine MG_of hJ.2.1 (by decide) (cat_r cat_e) (Nat.le_of_ble_eq_true rfl) (fun k hl hg hin hQ hC => ?_)
  subst hl hg
  show GW k 1 M 0 [some (va_rf (some a0))] []
  refine G_new (pc := 0) (ci := 26) (C := RJ24) (T := TJ24) (N := 4) (fs := fsJ24) tyJ24 hC rfl in_J24 tyJ24_ok q805 q806 q112 dfJ24 rfl dJ2_iterator_0 hw (fun q1 M2 hw => ?_)
  refine G_dup (pc := 3) hC dJ2_iterator_3 (rf_cat _) ?_
  refine G_aload_n (pc := 4) (i := 0) hC dJ2_iterator_4 rfl rfl ?_
  obtain ⟨hb, hw⟩ := hw
  refine G_callI (pc := 5) (n := 1) (b := q1) (As := [va_rf (some a0)]) (rest := [va_rf (some q1)]) hC (m_J24_init hJ hw) (lw_meth q809) q112 q807 q808 rfl hdK_J24_init.2 (by decide) rfl rfl (st_c (cat_r cat_e) (Nat.le_of_ble_eq_true rfl)) dJ2_iterator_5 (kU fun M3 hw => ?_)
  exact G_aret (pc := 8) hC (Or.inl ⟨_, rfl⟩) hQ dJ2_iterator_8 hw
def w_J24_hasNext_19 (g : gT) (F : Nat) (a0 : Nat) (Q : Int32 → hM → Prop) (s0 : Int32) (M : hM) : Prop :=
  ((s0 = 0 ∨ s0 = 1) ∧ Q s0 M)
def w_J24_hasNext (g : gT) (F : Nat) (a0 : Nat) (M : hM) (Q : Int32 → hM → Prop) : Prop :=
  gI M (some a0) 26 0 fun x1 => gF M (some a0) 26 3 fun x2 => gI M x2 21 2 fun x3 => ((x1 = x3 → w_J24_hasNext_19 g F a0 Q (0 : Int32) M) ∧ (¬ (x1 = x3) → w_J24_hasNext_19 g F a0 Q (1 : Int32) M))
theorem g_J24_hasNext_19 {k : kT} {F : Nat} {a0 : Nat} {Q : Int32 → hM → Prop} (hJ : JK (kl k) (kg k)) (hC : CX k 1 cJ24_hasNext RJ24 (some .boolean) 1 12) (hQ : isQ k (PI Q)) (hin : (kt k).name = "hasNext") : ∀ (s0 : Int32) (M : hM), w_J24_hasNext_19 (kg k) F a0 Q s0 M → GW k 1 M 19 [some (va_rf (some a0))] [.int s0] := by
  intro s0 M hw
  obtain ⟨hz, hw⟩ := hw
  exact G_iret (pc := 19) hC (nz_n hz) hQ dJ24_hasNext_19 hw
theorem m_J24_hasNext {l : Launch} {g : gT} {F : Nat} {a0 : Nat} {M : hM} {Q : Int32 → hM → Prop} (hJ : JK l g) (hw : w_J24_hasNext g F a0 M Q) : MG l g yJ24_hasNext (ws_ yJ24_hasNext cJ24_hasNext 1 (some .boolean)) 1 12 [va_rf (some a0)] M (PI Q) := by
  refine MG_of hJ.2.1 (by decide) (cat_r cat_e) (Nat.le_of_ble_eq_true rfl) (fun k hl hg hin hQ hC => ?_)
  subst hl hg
  show GW k 1 M 0 [some (va_rf (some a0))] []
  refine G_aload_n (pc := 0) (i := 0) hC dJ24_hasNext_0 rfl rfl ?_
  refine G_getI (pc := 1) (ci := 26) (C := RJ24) (T := TJ24) (N := 4) (f := 0) hC rfl in_J24 (Nat.le_of_ble_eq_true rfl) q813 (fun _ h => h) dJ24_hasNext_1 hw (fun x1 hw => ?_)
  refine G_aload_n (pc := 4) (i := 0) hC dJ24_hasNext_4 rfl rfl ?_
  refine G_getF (pc := 5) (ci := 26) (C := RJ24) (T := TJ24) (N := 4) (f := 3) hC rfl in_J24 (Nat.le_of_ble_eq_true rfl) q818 (fun _ h => h) dJ24_hasNext_5 hw (fun x2 hw => ?_)
  refine G_getIN (pc := 8) (ci := 21) (C := RJ2) (T := TJ2) (N := 3) (f := 2) hC rfl in_J2 (Nat.le_of_ble_eq_true rfl) (nw_in q176 rfl) (fun _ h => h) dJ24_hasNext_8 hw (fun x3 hw => ?_)
  refine G_icmp_eq (pc := 11) (tgt := 18) hC dJ24_hasNext_11 (by decide) (fun hc => ?_) (fun hc => ?_)
  · replace hw := hw.1 hc
    refine G_iconst (pc := 18) (v := 0) hC dJ24_hasNext_18 (by decide) ?_
    exact g_J24_hasNext_19 hJ hC hQ hin  (0 : Int32) M hw
  · replace hw := hw.2 hc
    refine G_iconst (pc := 14) (v := 1) hC dJ24_hasNext_14 (by decide) ?_
    refine G_goto (pc := 15) (tgt := 19) hC dJ24_hasNext_15 (by decide) ?_
    exact g_J24_hasNext_19 hJ hC hQ hin  (1 : Int32) M hw
def w_J24_checkForComodification (g : gT) (F : Nat) (a0 : Nat) (M : hM) (Q : hM → Prop) : Prop :=
  gF M (some a0) 26 3 fun x1 => gI M x1 21 0 fun x2 => gI M (some a0) 26 2 fun x3 => ((x2 = x3 → Q M) ∧ (¬ (x2 = x3) → False))
theorem m_J24_checkForComodification {l : Launch} {g : gT} {F : Nat} {a0 : Nat} {M : hM} {Q : hM → Prop} (hJ : JK l g) (hw : w_J24_checkForComodification g F a0 M Q) : MG l g yJ24_checkForComodification (ws_ yJ24_checkForComodification cJ24_checkForComodification 1 none) 1 12 [va_rf (some a0)] M (PU Q) := by
  refine MG_of hJ.2.1 (by decide) (cat_r cat_e) (Nat.le_of_ble_eq_true rfl) (fun k hl hg hin hQ hC => ?_)
  subst hl hg
  show GW k 1 M 0 [some (va_rf (some a0))] []
  refine G_aload_n (pc := 0) (i := 0) hC dJ24_checkForComodification_0 rfl rfl ?_
  refine G_getF (pc := 1) (ci := 26) (C := RJ24) (T := TJ24) (N := 4) (f := 3) hC rfl in_J24 (Nat.le_of_ble_eq_true rfl) q818 (fun _ h => h) dJ24_checkForComodification_1 hw (fun x1 hw => ?_)
  refine G_getI (pc := 4) (ci := 21) (C := RJ2) (T := TJ2) (N := 3) (f := 0) hC rfl in_J2 (Nat.le_of_ble_eq_true rfl) q179 (fun x h => u_same (hC.ts _ q180) x h) dJ24_checkForComodification_4 hw (fun x2 hw => ?_)
  refine G_aload_n (pc := 7) (i := 0) hC dJ24_checkForComodification_7 rfl rfl ?_
  refine G_getI (pc := 8) (ci := 26) (C := RJ24) (T := TJ24) (N := 4) (f := 2) hC rfl in_J24 (Nat.le_of_ble_eq_true rfl) q817 (fun _ h => h) dJ24_checkForComodification_8 hw (fun x3 hw => ?_)
  refine G_icmp_eq (pc := 11) (tgt := 22) hC dJ24_checkForComodification_11 (by decide) (fun hc => ?_) (fun hc => ?_)
  · replace hw := hw.1 hc
    exact G_ret (pc := 22) hC hQ dJ24_checkForComodification_22 hw
  · replace hw := hw.2 hc
    exact hw.elim
theorem hdK_J24_checkForComodification : yJ24_checkForComodification.cls = "java/util/ArrayList$Itr" ∧ yJ24_checkForComodification.cls ≠ "java/lang/invoke/MethodHandle" ∧ yJ24_checkForComodification.cls ≠ "java/lang/invoke/VarHandle" ∧ (parseMethodDescriptor yJ24_checkForComodification.desc).map (fun d => d.parameters.length) = some 0 := by decide +kernel
def w_J24_next (g : gT) (F : Nat) (a0 : Nat) (M : hM) (Q : Option Nat → hM → Prop) : Prop :=
  (isC M a0 26 ∧ w_J24_checkForComodification g F a0  M (fun M1 => gI M1 (some a0) 26 0 fun x2 => gF M1 (some a0) 26 3 fun x3 => gI M1 x3 21 2 fun x4 => ((x2 < x4 → gF M1 (some a0) 26 3 fun x5 => gF M1 x5 21 1 fun x6 => aLenK g M1 x6 fun x7 => ((x2 < x7 → pV M1 (some a0) 26 0 (.int (x2 + (1 : Int32))) fun M8 => pV M8 (some a0) 26 1 (.int x2) fun M9 => aR M9 x6 x2 fun x10 => Q x10 M9) ∧ (¬ (x2 < x7) → False))) ∧ (¬ (x2 < x4) → False))))
theorem m_J24_next {l : Launch} {g : gT} {F : Nat} {a0 : Nat} {M : hM} {Q : Option Nat → hM → Prop} (hJ : JK l g) (hw : w_J24_next g F a0 M Q) : MG l g yJ24_next (ws_ yJ24_next cJ24_next 3 (some (.object "java/lang/Object"))) 2 32 [va_rf (some a0)] M (PR Q) := by
  refine MG_of hJ.2.1 (by decide) (cat_r cat_e) (Nat.le_of_ble_eq_true rfl) (fun k hl hg hin hQ hC => ?_)
  subst hl hg
  show GW k 3 M 0 [some (va_rf (some a0)), none, none] []
  refine G_aload_n (pc := 0) (i := 0) hC dJ24_next_0 rfl rfl ?_
  obtain ⟨hb, hw⟩ := hw
  refine G_callV (pc := 1) (n := 0) (C := "java/util/ArrayList$Itr") (b := a0) (As := []) (rest := []) hC (m_J24_checkForComodification hJ hw) (lw_V q1124 q1125 q1126 q112 q1129) hdK_J24_checkForComodification (by decide) (rcv (C := RJ24) (T := TJ24) (N := 4) hC hb rfl) rfl rfl (st_c cat_e (Nat.le_of_ble_eq_true rfl)) dJ24_next_1 (kU fun M1 hw => ?_)
  refine G_aload_n (pc := 4) (i := 0) hC dJ24_next_4 rfl rfl ?_
  refine G_getI (pc := 5) (ci := 26) (C := RJ24) (T := TJ24) (N := 4) (f := 0) hC rfl in_J24 (Nat.le_of_ble_eq_true rfl) q813 (fun _ h => h) dJ24_next_5 hw (fun x2 hw => ?_)
  refine G_istore_n (pc := 8) (i := 1) (lw := [some (va_rf (some a0)), some (.int x2), none]) hC dJ24_next_8 rfl (Nat.le_of_ble_eq_true rfl) rfl ?_
  refine G_iload_n (pc := 9) (i := 1) hC dJ24_next_9 rfl rfl ?_
  refine G_aload_n (pc := 10) (i := 0) hC dJ24_next_10 rfl rfl ?_
  refine G_getF (pc := 11) (ci := 26) (C := RJ24) (T := TJ24) (N := 4) (f := 3) hC rfl in_J24 (Nat.le_of_ble_eq_true rfl) q818 (fun _ h => h) dJ24_next_11 hw (fun x3 hw => ?_)
  refine G_getIN (pc := 14) (ci := 21) (C := RJ2) (T := TJ2) (N := 3) (f := 2) hC rfl in_J2 (Nat.le_of_ble_eq_true rfl) (nw_in q176 rfl) (fun _ h => h) dJ24_next_14 hw (fun x4 hw => ?_)
  refine G_icmp_lt (pc := 17) (tgt := 28) hC dJ24_next_17 (by decide) (fun hc => ?_) (fun hc => ?_)
  · replace hw := hw.1 hc
    refine G_aload_n (pc := 28) (i := 0) hC dJ24_next_28 rfl rfl ?_
    refine G_getF (pc := 29) (ci := 26) (C := RJ24) (T := TJ24) (N := 4) (f := 3) hC rfl in_J24 (Nat.le_of_ble_eq_true rfl) q818 (fun _ h => h) dJ24_next_29 hw (fun x5 hw => ?_)
    refine G_getF (pc := 32) (ci := 21) (C := RJ2) (T := TJ2) (N := 3) (f := 1) hC rfl in_J2 (Nat.le_of_ble_eq_true rfl) q175 (fun _ h => h) dJ24_next_32 hw (fun x6 hw => ?_)
    refine G_astore_n (pc := 35) (i := 2) (lw := [some (va_rf (some a0)), some (.int x2), some (va_rf x6)]) hC dJ24_next_35 rfl (Nat.le_of_ble_eq_true rfl) rfl ?_
    refine G_iload_n (pc := 36) (i := 1) hC dJ24_next_36 rfl rfl ?_
    refine G_aload_n (pc := 37) (i := 2) hC dJ24_next_37 rfl rfl ?_
    refine G_alenK (pc := 38) hJ hC dJ24_next_38 hw (fun x7 hw => ?_)
    refine G_icmp_lt (pc := 39) (tgt := 50) hC dJ24_next_39 (by decide) (fun hc => ?_) (fun hc => ?_)
    · replace hw := hw.1 hc
      refine G_aload_n (pc := 50) (i := 0) hC dJ24_next_50 rfl rfl ?_
      refine G_iload_n (pc := 51) (i := 1) hC dJ24_next_51 rfl rfl ?_
      refine G_iconst (pc := 52) (v := 1) hC dJ24_next_52 (by decide) ?_
      refine G_iadd (pc := 53) hC dJ24_next_53 ?_
      refine G_put (pc := 54) (ci := 26) (C := RJ24) (T := TJ24) (N := 4) (f := 0) tyJ24 hC rfl in_J24 tyJ24_ok nmJ24 (Nat.le_of_ble_eq_true rfl) q813 (fun _ h => h) rfl rfl rfl dJ24_next_54 hw (fun M8 hw => ?_)
      refine G_aload_n (pc := 57) (i := 2) hC dJ24_next_57 rfl rfl ?_
      refine G_aload_n (pc := 58) (i := 0) hC dJ24_next_58 rfl rfl ?_
      refine G_iload_n (pc := 59) (i := 1) hC dJ24_next_59 rfl rfl ?_
      refine G_dup_x1 (pc := 60) hC dJ24_next_60 rfl (rf_cat _) ?_
      refine G_put (pc := 61) (ci := 26) (C := RJ24) (T := TJ24) (N := 4) (f := 1) tyJ24 hC rfl in_J24 tyJ24_ok nmJ24 (Nat.le_of_ble_eq_true rfl) q814 (fun _ h => h) rfl rfl rfl dJ24_next_61 hw (fun M9 hw => ?_)
      refine G_aald (pc := 64) hC dJ24_next_64 hw (fun x10 hw => ?_)
      exact G_aret (pc := 65) hC (Or.inl ⟨_, rfl⟩) hQ dJ24_next_65 hw
    · replace hw := hw.2 hc
      exact hw.elim
  · replace hw := hw.2 hc
    exact hw.elim
def w_J18_init_s25 (g : gT) (F : Nat) (a0 : Nat) (M : hM) (Q : hM → Prop) : Prop :=
  Q M
theorem m_J18_init_s25 {l : Launch} {g : gT} {F : Nat} {a0 : Nat} {M : hM} {Q : hM → Prop} (hJ : JK l g) (hw : w_J18_init_s25 g F a0 M Q) : MG l g yJ18_init (ws_ yJ18_init cJ18_init 1 none) 1 20 [va_rf (some a0)] M (PU Q) := by
  refine MG_of hJ.2.1 (by decide) (cat_r cat_e) (Nat.le_of_ble_eq_true rfl) (fun k hl hg hin hQ hC => ?_)
  subst hl hg
  show GW k 1 M 0 [some (va_rf (some a0))] []
  refine G_aload_n (pc := 0) (i := 0) hC dJ18_init_0 rfl rfl ?_
  refine G_objInit (pc := 1) hC q1006 q158 q159 rfl rfl (st_c cat_e (Nat.le_of_ble_eq_true rfl)) dJ18_init_1 ?_
  exact G_ret (pc := 4) hC hQ dJ18_init_4 hw
theorem hdK_J18_init_s25 : yJ18_init.cls = "java/lang/Number" ∧ yJ18_init.cls ≠ "java/lang/invoke/MethodHandle" ∧ yJ18_init.cls ≠ "java/lang/invoke/VarHandle" ∧ (parseMethodDescriptor yJ18_init.desc).map (fun d => d.parameters.length) = some 0 := by decide +kernel
def w_J19_init (g : gT) (F : Nat) (a0 : Nat) (p1 : Int32) (M : hM) (Q : hM → Prop) : Prop :=
  (isC M a0 25 ∧ w_J18_init_s25 g F a0  M (fun M1 => pV M1 (some a0) 25 0 (.int p1) fun M2 => Q M2))
theorem m_J19_init {l : Launch} {g : gT} {F : Nat} {a0 : Nat} {p1 : Int32} {M : hM} {Q : hM → Prop} (hJ : JK l g) (hw : w_J19_init g F a0 p1 M Q) : MG l g yJ19_init (ws_ yJ19_init cJ19_init 2 none) 2 40 [va_rf (some a0), .int p1] M (PU Q) := by
  refine MG_of hJ.2.1 (by decide) (cat_r (cat_i cat_e)) (Nat.le_of_ble_eq_true rfl) (fun k hl hg hin hQ hC => ?_)
  subst hl hg
  show GW k 2 M 0 [some (va_rf (some a0)), some (.int p1)] []
  refine G_aload_n (pc := 0) (i := 0) hC dJ19_init_0 rfl rfl ?_
  obtain ⟨hb, hw⟩ := hw
  refine G_callI (pc := 1) (n := 0) (b := a0) (As := []) (rest := []) hC (m_J18_init_s25 hJ hw) (lw_meth q1005) q105 q1003 q1004 rfl hdK_J18_init_s25.2 (by decide) rfl rfl (st_c cat_e (Nat.le_of_ble_eq_true rfl)) dJ19_init_1 (kU fun M1 hw => ?_)
  refine G_aload_n (pc := 4) (i := 0) hC dJ19_init_4 rfl rfl ?_
  refine G_iload_n (pc := 5) (i := 1) hC dJ19_init_5 rfl rfl ?_
  refine G_putF (pc := 6) (ci := 25) (C := RJ19) (T := TJ19) (N := 1) (f := 0) tyJ19 hC rfl in_J19 tyJ19_ok nmJ19 (Nat.le_of_ble_eq_true rfl) q1007 (fun _ h => h) rfl hin rfl rfl rfl dJ19_init_6 hw (fun M2 hw => ?_)
  exact G_ret (pc := 9) hC hQ dJ19_init_9 hw
theorem hdK_J19_init : yJ19_init.cls = "java/lang/Integer" ∧ yJ19_init.cls ≠ "java/lang/invoke/MethodHandle" ∧ yJ19_init.cls ≠ "java/lang/invoke/VarHandle" ∧ (parseMethodDescriptor yJ19_init.desc).map (fun d => d.parameters.length) = some 1 := by decide +kernel
def w_J19_valueOf_23 (g : gT) (F : Nat) (p0 : Int32) (Q : Option Nat → hM → Prop) (M : hM) : Prop :=
  nW M 25 fsJ19 fun q1 M2 => (isC M2 q1 25 ∧ w_J19_init g F q1 p0 M2 (fun M3 => Q (some q1) M3))
def w_J19_valueOf (g : gT) (F : Nat) (p0 : Int32) (M : hM) (Q : Option Nat → hM → Prop) : Prop :=
  ((p0 < (-128 : Int32) → w_J19_valueOf_23 g F p0 Q M) ∧ (¬ (p0 < (-128 : Int32)) → (((127 : Int32) < p0 → w_J19_valueOf_23 g F p0 Q M) ∧ (¬ ((127 : Int32) < p0) → cacheR g (some (gK g 258)) (p0 + (128 : Int32)) fun x1 => Q x1 M))))
theorem g_J19_valueOf_23 {k : kT} {F : Nat} {p0 : Int32} {Q : Option Nat → hM → Prop} (hJ : JK (kl k) (kg k)) (hC : CX k 1 cJ19_valueOf RJ19 (some (.object "java/lang/Integer")) 3 61) (hQ : isQ k (PR Q)) (hin : (kt k).name = "valueOf") : ∀  (M : hM), w_J19_valueOf_23 (kg k) F p0 Q  M → GW k 1 M 23 [some (.int p0)] [] := by
  intro  M hw
  refine G_new (pc := 23) (ci := 25) (C := RJ19) (T := TJ19) (N := 1) (fs := fsJ19) tyJ19 hC rfl in_J19 tyJ19_ok q998 q999 q106 dfJ19 rfl dJ19_valueOf_23 hw (fun q1 M2 hw => ?_)
  refine G_dup (pc := 26) hC dJ19_valueOf_26 (rf_cat _) ?_
  refine G_iload_n (pc := 27) (i := 0) hC dJ19_valueOf_27 rfl rfl ?_
  obtain ⟨hb, hw⟩ := hw
  refine G_callI (pc := 28) (n := 1) (b := q1) (As := [.int p0]) (rest := [va_rf (some q1)]) hC (m_J19_init hJ hw) (lw_meth q1002) q106 q1000 q1001 rfl hdK_J19_init.2 (by decide) rfl rfl (st_c (cat_r cat_e) (Nat.le_of_ble_eq_true rfl)) dJ19_valueOf_28 (kU fun M3 hw => ?_)
  exact G_aret (pc := 31) hC (Or.inl ⟨_, rfl⟩) hQ dJ19_valueOf_31 hw
theorem m_J19_valueOf {l : Launch} {g : gT} {F : Nat} {p0 : Int32} {M : hM} {Q : Option Nat → hM → Prop} (hJ : JK l g) (hw : w_J19_valueOf g F p0 M Q) : MG l g yJ19_valueOf (ws_ yJ19_valueOf cJ19_valueOf 1 (some (.object "java/lang/Integer"))) 3 61 [.int p0] M (PR Q) := by
  refine MG_of hJ.2.1 (by decide) (cat_i cat_e) (Nat.le_of_ble_eq_true rfl) (fun k hl hg hin hQ hC => ?_)
  subst hl hg
  show GW k 1 M 0 [some (.int p0)] []
  refine G_iload_n (pc := 0) (i := 0) hC dJ19_valueOf_0 rfl rfl ?_
  refine G_bipush (pc := 1) (v := -128) hC dJ19_valueOf_1 (by decide) ?_
  refine G_icmp_lt (pc := 3) (tgt := 23) hC dJ19_valueOf_3 (by decide) (fun hc => ?_) (fun hc => ?_)
  · replace hw := hw.1 hc
    exact g_J19_valueOf_23 hJ hC hQ hin   M hw
  · replace hw := hw.2 hc
    refine G_iload_n (pc := 6) (i := 0) hC dJ19_valueOf_6 rfl rfl ?_
    refine G_gets (pc := 7) (v := .int (127 : Int32)) hC (hC.sK hJ).2.2.2.1 q994 (fun _ h => h) dJ19_valueOf_7 ?_
    refine G_icmp_gt (pc := 10) (tgt := 23) hC dJ19_valueOf_10 (by decide) (fun hc => ?_) (fun hc => ?_)
    · replace hw := hw.1 hc
      exact g_J19_valueOf_23 hJ hC hQ hin   M hw
    · replace hw := hw.2 hc
      refine G_gets (pc := 13) (v := va_rf (some (gK (kg k) 258))) hC (hC.sK hJ).2.2.2.2.1 q996 (fun _ h => h) dJ19_valueOf_13 ?_
      refine G_iload_n (pc := 16) (i := 0) hC dJ19_valueOf_16 rfl rfl ?_
      refine G_sipush (pc := 17) (v := 128) hC dJ19_valueOf_17 (by decide) ?_
      refine G_iadd (pc := 20) hC dJ19_valueOf_20 ?_
      refine G_cache (pc := 21) hJ hC dJ19_valueOf_21 hw (fun x1 hw => ?_)
      exact G_aret (pc := 22) hC (Or.inl ⟨_, rfl⟩) hQ dJ19_valueOf_22 hw
def w_J19_compare_19 (g : gT) (F : Nat) (p0 : Int32) (p1 : Int32) (Q : Int32 → hM → Prop) (s0 : Int32) (M : hM) : Prop :=
  Q s0 M
def w_J19_compare (g : gT) (F : Nat) (p0 : Int32) (p1 : Int32) (M : hM) (Q : Int32 → hM → Prop) : Prop :=
  ((p1 ≤ p0 → ((¬ p0 = p1 → w_J19_compare_19 g F p0 p1 Q (1 : Int32) M) ∧ (p0 = p1 → w_J19_compare_19 g F p0 p1 Q (0 : Int32) M))) ∧ (¬ (p1 ≤ p0) → w_J19_compare_19 g F p0 p1 Q (-1 : Int32) M))
theorem g_J19_compare_19 {k : kT} {F : Nat} {p0 : Int32} {p1 : Int32} {Q : Int32 → hM → Prop} (hJ : JK (kl k) (kg k)) (hC : CX k 2 cJ19_compare RJ19 (some .int) 1 12) (hQ : isQ k (PI Q)) (hin : (kt k).name = "compare") : ∀ (s0 : Int32) (M : hM), w_J19_compare_19 (kg k) F p0 p1 Q s0 M → GW k 2 M 19 [some (.int p0), some (.int p1)] [.int s0] := by
  intro s0 M hw
  exact G_iret (pc := 19) hC rfl hQ dJ19_compare_19 hw
theorem m_J19_compare {l : Launch} {g : gT} {F : Nat} {p0 : Int32} {p1 : Int32} {M : hM} {Q : Int32 → hM → Prop} (hJ : JK l g) (hw : w_J19_compare g F p0 p1 M Q) : MG l g yJ19_compare (ws_ yJ19_compare cJ19_compare 2 (some .int)) 1 12 [.int p0, .int p1] M (PI Q) := by
  refine MG_of hJ.2.1 (by decide) (cat_i (cat_i cat_e)) (Nat.le_of_ble_eq_true rfl) (fun k hl hg hin hQ hC => ?_)
  subst hl hg
  show GW k 2 M 0 [some (.int p0), some (.int p1)] []
  refine G_iload_n (pc := 0) (i := 0) hC dJ19_compare_0 rfl rfl ?_
  refine G_iload_n (pc := 1) (i := 1) hC dJ19_compare_1 rfl rfl ?_
  refine G_icmp_ge (pc := 2) (tgt := 9) hC dJ19_compare_2 (by decide) (fun hc => ?_) (fun hc => ?_)
  · replace hw := hw.1 hc
    refine G_iload_n (pc := 9) (i := 0) hC dJ19_compare_9 rfl rfl ?_
    refine G_iload_n (pc := 10) (i := 1) hC dJ19_compare_10 rfl rfl ?_
    refine G_icmp_ne (pc := 11) (tgt := 18) hC dJ19_compare_11 (by decide) (fun hc => ?_) (fun hc => ?_)
    · replace hw := hw.1 hc
      refine G_iconst (pc := 18) (v := 1) hC dJ19_compare_18 (by decide) ?_
      exact g_J19_compare_19 hJ hC hQ hin  (1 : Int32) M hw
    · replace hw := hw.2 hc
      refine G_iconst (pc := 14) (v := 0) hC dJ19_compare_14 (by decide) ?_
      refine G_goto (pc := 15) (tgt := 19) hC dJ19_compare_15 (by decide) ?_
      exact g_J19_compare_19 hJ hC hQ hin  (0 : Int32) M hw
  · replace hw := hw.2 hc
    refine G_iconst (pc := 5) (v := -1) hC dJ19_compare_5 (by decide) ?_
    refine G_goto (pc := 6) (tgt := 19) hC dJ19_compare_6 (by decide) ?_
    exact g_J19_compare_19 hJ hC hQ hin  (-1 : Int32) M hw
def w_J0_init_s28 (g : gT) (F : Nat) (a0 : Nat) (M : hM) (Q : hM → Prop) : Prop :=
  Q M
theorem m_J0_init_s28 {l : Launch} {g : gT} {F : Nat} {a0 : Nat} {M : hM} {Q : hM → Prop} (hJ : JK l g) (hw : w_J0_init_s28 g F a0 M Q) : MG l g yJ0_init (ws_ yJ0_init cJ0_init 1 none) 1 20 [va_rf (some a0)] M (PU Q) := by
  refine MG_of hJ.2.1 (by decide) (cat_r cat_e) (Nat.le_of_ble_eq_true rfl) (fun k hl hg hin hQ hC => ?_)
  subst hl hg
  show GW k 1 M 0 [some (va_rf (some a0))] []
  refine G_aload_n (pc := 0) (i := 0) hC dJ0_init_0 rfl rfl ?_
  refine G_objInit (pc := 1) hC q171 q158 q159 rfl rfl (st_c cat_e (Nat.le_of_ble_eq_true rfl)) dJ0_init_1 ?_
  exact G_ret (pc := 4) hC hQ dJ0_init_4 hw
theorem hdK_J0_init_s28 : yJ0_init.cls = "java/util/AbstractCollection" ∧ yJ0_init.cls ≠ "java/lang/invoke/MethodHandle" ∧ yJ0_init.cls ≠ "java/lang/invoke/VarHandle" ∧ (parseMethodDescriptor yJ0_init.desc).map (fun d => d.parameters.length) = some 0 := by decide +kernel
def w_J1_init_s28 (g : gT) (F : Nat) (a0 : Nat) (M : hM) (Q : hM → Prop) : Prop :=
  (isC M a0 28 ∧ w_J0_init_s28 g F a0  M (fun M1 => pV M1 (some a0) 28 0 (.int (0 : Int32)) fun M2 => Q M2))
theorem m_J1_init_s28 {l : Launch} {g : gT} {F : Nat} {a0 : Nat} {M : hM} {Q : hM → Prop} (hJ : JK l g) (hw : w_J1_init_s28 g F a0 M Q) : MG l g yJ1_init (ws_ yJ1_init cJ1_init 1 none) 2 40 [va_rf (some a0)] M (PU Q) := by
  refine MG_of hJ.2.1 (by decide) (cat_r cat_e) (Nat.le_of_ble_eq_true rfl) (fun k hl hg hin hQ hC => ?_)
  subst hl hg
  show GW k 1 M 0 [some (va_rf (some a0))] []
  refine G_aload_n (pc := 0) (i := 0) hC dJ1_init_0 rfl rfl ?_
  obtain ⟨hb, hw⟩ := hw
  refine G_callI (pc := 1) (n := 0) (b := a0) (As := []) (rest := []) hC (m_J0_init_s28 hJ hw) (lw_meth q170) q85 q168 q169 rfl hdK_J0_init_s28.2 (by decide) rfl rfl (st_c cat_e (Nat.le_of_ble_eq_true rfl)) dJ1_init_1 (kU fun M1 hw => ?_)
  refine G_aload_n (pc := 4) (i := 0) hC dJ1_init_4 rfl rfl ?_
  refine G_iconst (pc := 5) (v := 0) hC dJ1_init_5 (by decide) ?_
  refine G_put (pc := 6) (ci := 28) (C := RJ33) (T := TJ33) (N := 2) (f := 0) tyJ33 hC rfl in_J33 tyJ33_ok nmJ33 (Nat.le_of_ble_eq_true rfl) q178 (fun _ h => h) rfl rfl rfl dJ1_init_6 hw (fun M2 hw => ?_)
  exact G_ret (pc := 9) hC hQ dJ1_init_9 hw
theorem hdK_J1_init_s28 : yJ1_init.cls = "java/util/AbstractList" ∧ yJ1_init.cls ≠ "java/lang/invoke/MethodHandle" ∧ yJ1_init.cls ≠ "java/lang/invoke/VarHandle" ∧ (parseMethodDescriptor yJ1_init.desc).map (fun d => d.parameters.length) = some 0 := by decide +kernel
def w_J33_init (g : gT) (F : Nat) (a0 : Nat) (p1 : Option Nat) (M : hM) (Q : hM → Prop) : Prop :=
  (isC M a0 28 ∧ w_J1_init_s28 g F a0  M (fun M1 => pV M1 (some a0) 28 1 (va_rf p1) fun M2 => Q M2))
theorem m_J33_init {l : Launch} {g : gT} {F : Nat} {a0 : Nat} {p1 : Option Nat} {M : hM} {Q : hM → Prop} (hJ : JK l g) (hw : w_J33_init g F a0 p1 M Q) : MG l g yJ33_init (ws_ yJ33_init cJ33_init 2 none) 3 60 [va_rf (some a0), va_rf p1] M (PU Q) := by
  refine MG_of hJ.2.1 (by decide) (cat_r (cat_r cat_e)) (Nat.le_of_ble_eq_true rfl) (fun k hl hg hin hQ hC => ?_)
  subst hl hg
  show GW k 2 M 0 [some (va_rf (some a0)), some (va_rf p1)] []
  refine G_aload_n (pc := 0) (i := 0) hC dJ33_init_0 rfl rfl ?_
  obtain ⟨hb, hw⟩ := hw
  refine G_callI (pc := 1) (n := 0) (b := a0) (As := []) (rest := []) hC (m_J1_init_s28 hJ hw) (lw_meth q167) q86 q1839 q166 rfl hdK_J1_init_s28.2 (by decide) rfl rfl (st_c cat_e (Nat.le_of_ble_eq_true rfl)) dJ33_init_1 (kU fun M1 hw => ?_)
  refine G_aload_n (pc := 4) (i := 0) hC dJ33_init_4 rfl rfl ?_
  refine G_aload_n (pc := 5) (i := 1) hC dJ33_init_5 rfl rfl ?_
  refine G_putF (pc := 6) (ci := 28) (C := RJ33) (T := TJ33) (N := 2) (f := 1) tyJ33 hC rfl in_J33 tyJ33_ok nmJ33 (Nat.le_of_ble_eq_true rfl) q1840 (fun _ h => h) rfl hin rfl (nR_o _ _) (fR_o _ _) dJ33_init_6 hw (fun M2 hw => ?_)
  exact G_ret (pc := 9) hC hQ dJ33_init_9 hw
theorem hdK_J33_init : yJ33_init.cls = "java/util/Collections$SingletonList" ∧ yJ33_init.cls ≠ "java/lang/invoke/MethodHandle" ∧ yJ33_init.cls ≠ "java/lang/invoke/VarHandle" ∧ (parseMethodDescriptor yJ33_init.desc).map (fun d => d.parameters.length) = some 1 := by decide +kernel
def w_J25_singletonList (g : gT) (F : Nat) (p0 : Option Nat) (M : hM) (Q : Option Nat → hM → Prop) : Prop :=
  nW M 28 fsJ33 fun q1 M2 => (isC M2 q1 28 ∧ w_J33_init g F q1 p0 M2 (fun M3 => Q (some q1) M3))
theorem m_J25_singletonList {l : Launch} {g : gT} {F : Nat} {p0 : Option Nat} {M : hM} {Q : Option Nat → hM → Prop} (hJ : JK l g) (hw : w_J25_singletonList g F p0 M Q) : MG l g yJ25_singletonList (ws_ yJ25_singletonList cJ25_singletonList 1 (some (.object "java/util/List"))) 4 81 [va_rf p0] M (PR Q) := by
  refine MG_of hJ.2.1 (by decide) (cat_r cat_e) (Nat.le_of_ble_eq_true rfl) (fun k hl hg hin hQ hC => ?_)
  subst hl hg
  show GW k 1 M 0 [some (va_rf p0)] []
  refine G_new (pc := 0) (ci := 28) (C := RJ33) (T := TJ33) (N := 2) (fs := fsJ33) tyJ33 hC rfl in_J33 tyJ33_ok q1834 q1835 q127 dfJ33 rfl dJ25_singletonList_0 hw (fun q1 M2 hw => ?_)
  refine G_dup (pc := 3) hC dJ25_singletonList_3 (rf_cat _) ?_
  refine G_aload_n (pc := 4) (i := 0) hC dJ25_singletonList_4 rfl rfl ?_
  obtain ⟨hb, hw⟩ := hw
  refine G_callI (pc := 5) (n := 1) (b := q1) (As := [va_rf p0]) (rest := [va_rf (some q1)]) hC (m_J33_init hJ hw) (lw_meth q1838) q127 q1836 q1837 rfl hdK_J33_init.2 (by decide) rfl rfl (st_c (cat_r cat_e) (Nat.le_of_ble_eq_true rfl)) dJ25_singletonList_5 (kU fun M3 hw => ?_)
  exact G_aret (pc := 8) hC (Or.inl ⟨_, rfl⟩) hQ dJ25_singletonList_8 hw
def w_J25_copy_128 (g : gT) (F : Nat) (p0 : Option Nat) (p1 : Option Nat) (Q : hM → Prop) (M : hM) : Prop :=
  Q M
def w_J25_copy_49 (g : gT) (F : Nat) (p0 : Option Nat) (p1 : Option Nat) (Q : hM → Prop) : Nat → Int32 → Int32 → hM → Prop
  | 0, _, _, _ => False
  | n + 1, v2, v3, M => ((v2 ≤ v3 → w_J25_copy_128 g F p0 p1 Q M) ∧ (¬ (v2 ≤ v3) → gThis M p1 21 fun b2 => w_J2_get g F b2 v3 M (fun x3 M1 => gThis M1 p0 21 fun b5 => w_J2_set g F b5 v3 x3 M1 (fun x6 M4 => w_J25_copy_49 g F p0 p1 Q n v2 (v3 + (1 : Int32)) M4))))
def w_J25_copy_47 (g : gT) (F : Nat) (p0 : Option Nat) (p1 : Option Nat) (Q : hM → Prop) (v2 : Int32) (M : hM) : Prop :=
  w_J25_copy_49 g F p0 p1 Q F v2 (0 : Int32) M
def w_J25_copy_96 (g : gT) (F : Nat) (p0 : Option Nat) (p1 : Option Nat) (Q : hM → Prop) : Nat → Int32 → (Option Nat) → (Option Nat) → Int32 → hM → Prop
  | 0, _, _, _, _, _ => False
  | n + 1, v2, v3, v4, v5, M => ((v2 ≤ v5 → w_J25_copy_128 g F p0 p1 Q M) ∧ (¬ (v2 ≤ v5) → False))
def w_J25_copy_78 (g : gT) (F : Nat) (p0 : Option Nat) (p1 : Option Nat) (Q : hM → Prop) (v2 : Int32) (M : hM) : Prop :=
  False
def w_J25_copy (g : gT) (F : Nat) (p0 : Option Nat) (p1 : Option Nat) (M : hM) (Q : hM → Prop) : Prop :=
  gThis M p1 21 fun b2 => w_J2_size g F b2  M (fun x3 M1 => gThis M1 p0 21 fun b5 => w_J2_size g F b5  M1 (fun x6 M4 => ((x3 ≤ x6 → ((x3 < (10 : Int32) → w_J25_copy_47 g F p0 p1 Q x3 M4) ∧ (¬ (x3 < (10 : Int32)) → False))) ∧ (¬ (x3 ≤ x6) → False))))
theorem g_J25_copy_128 {k : kT} {F : Nat} {p0 : Option Nat} {p1 : Option Nat} {Q : hM → Prop} (hJ : JK (kl k) (kg k)) (hC : CX k 6 cJ25_copy RJ25 none 4 78) (hQ : isQ k (PU Q)) (hin : (kt k).name = "copy") : ∀  (M : hM), w_J25_copy_128 (kg k) F p0 p1 Q  M → GW k 6 M 128 [some (va_rf p0), some (va_rf p1), none, none, none, none] [] := by
  intro  M hw
  exact G_ret (pc := 128) hC hQ dJ25_copy_128 hw
theorem g_J25_copy_49 {k : kT} {F : Nat} {p0 : Option Nat} {p1 : Option Nat} {Q : hM → Prop} (hJ : JK (kl k) (kg k)) (hC : CX k 6 cJ25_copy RJ25 none 4 78) (hQ : isQ k (PU Q)) (hin : (kt k).name = "copy") : ∀ (n : Nat) (v2 : Int32) (v3 : Int32) (M : hM), w_J25_copy_49 (kg k) F p0 p1 Q n v2 v3 M → GW k 6 M 49 [some (va_rf p0), some (va_rf p1), some (.int v2), some (.int v3), none, none] [] := by
  intro n
  induction n with
  | zero =>
    intro v2 v3 M hw
    exact hw.elim
  | succ n ih =>
    intro v2 v3 M hw
    refine G_iload_n (pc := 49) (i := 3) hC dJ25_copy_49 rfl rfl ?_
    refine G_iload_n (pc := 50) (i := 2) hC dJ25_copy_50 rfl rfl ?_
    refine G_icmp_ge (pc := 51) (tgt := 75) hC dJ25_copy_51 (by decide) (fun hc => ?_) (fun hc => ?_)
    · replace hw := hw.1 hc
      refine G_goto (pc := 75) (tgt := 128) hC dJ25_copy_75 (by decide) ?_
      refine G_loc (lv' := [some (va_rf p0), some (va_rf p1), none, none, none, none]) ⟨Or.inr rfl, Or.inr rfl, Or.inl rfl, Or.inl rfl, Or.inr rfl, Or.inr rfl, trivial⟩ ?_
      exact g_J25_copy_128 hJ hC hQ hin   M hw
    · replace hw := hw.2 hc
      refine G_aload_n (pc := 54) (i := 0) hC dJ25_copy_54 rfl rfl ?_
      refine G_iload_n (pc := 55) (i := 3) hC dJ25_copy_55 rfl rfl ?_
      refine G_aload_n (pc := 56) (i := 1) hC dJ25_copy_56 rfl rfl ?_
      refine G_iload_n (pc := 57) (i := 3) hC dJ25_copy_57 rfl rfl ?_
      obtain ⟨b2, rfl, hb, hw⟩ := gThis_e hw
      refine G_callF (pc := 58) (n := 1) (x := ⟨"java/util/List", "get", "(I)Ljava/lang/Object;"⟩) (C := "java/util/ArrayList") (ci := 21) (T := TJ2) (N := 3) (b := b2) (As := [.int v3]) (rest := [.int v3, va_rf p0]) hC (m_J2_get hJ hw) (lw_F q3318 q956 q958 q87 q960) (nw_in q955 rfl) (nw_in q954 rfl) (nw_in q959 rfl) (nw_in q957 rfl) (nw_in q259 rfl) rfl (rcv (C := RJ2) (T := TJ2) (N := 3) hC hb rfl) (by decide +kernel) (by decide) rfl rfl (st_c (cat_i (cat_r cat_e)) (Nat.le_of_ble_eq_true rfl)) dJ25_copy_58 (kRf fun x3 M1 hw => ?_)
      obtain ⟨b5, rfl, hb, hw⟩ := gThis_e hw
      refine G_callF (pc := 63) (n := 2) (x := ⟨"java/util/List", "set", "(ILjava/lang/Object;)Ljava/lang/Object;"⟩) (C := "java/util/ArrayList") (ci := 21) (T := TJ2) (N := 3) (b := b5) (As := [.int v3, va_rf x3]) (rest := []) hC (m_J2_set hJ hw) (lw_F q3320 q1262 q1264 q87 q1266) (nw_in q1261 rfl) (nw_in q1260 rfl) (nw_in q1265 rfl) (nw_in q1263 rfl) (nw_in q259 rfl) rfl (rcv (C := RJ2) (T := TJ2) (N := 3) hC hb rfl) (by decide +kernel) (by decide) rfl rfl (st_c cat_e (Nat.le_of_ble_eq_true rfl)) dJ25_copy_63 (kRf fun x6 M4 hw => ?_)
      refine G_pop (pc := 68) hC dJ25_copy_68 (rf_cat _) ?_
      refine G_iinc (pc := 69) (i := 3) (v := (v3 + (1 : Int32))) (lw := [some (va_rf (some b5)), some (va_rf (some b2)), some (.int v2), some (.int (v3 + (1 : Int32))), none, none]) hC dJ25_copy_69 rfl (Nat.le_of_ble_eq_true rfl) rfl rfl ?_
      refine G_goto (pc := 72) (tgt := 49) hC dJ25_copy_72 (by decide) ?_
      exact ih v2 (v3 + (1 : Int32)) M4 hw
theorem g_J25_copy_47 {k : kT} {F : Nat} {p0 : Option Nat} {p1 : Option Nat} {Q : hM → Prop} (hJ : JK (kl k) (kg k)) (hC : CX k 6 cJ25_copy RJ25 none 4 78) (hQ : isQ k (PU Q)) (hin : (kt k).name = "copy") : ∀ (v2 : Int32) (M : hM), w_J25_copy_47 (kg k) F p0 p1 Q v2 M → GW k 6 M 47 [some (va_rf p0), some (va_rf p1), some (.int v2), none, none, none] [] := by
  intro v2 M hw
  refine G_iconst (pc := 47) (v := 0) hC dJ25_copy_47 (by decide) ?_
  refine G_istore_n (pc := 48) (i := 3) (lw := [some (va_rf p0), some (va_rf p1), some (.int v2), some (.int (0 : Int32)), none, none]) hC dJ25_copy_48 rfl (Nat.le_of_ble_eq_true rfl) rfl ?_
  exact g_J25_copy_49 hJ hC hQ hin _ v2 (0 : Int32) M hw
theorem g_J25_copy_96 {k : kT} {F : Nat} {p0 : Option Nat} {p1 : Option Nat} {Q : hM → Prop} (hJ : JK (kl k) (kg k)) (hC : CX k 6 cJ25_copy RJ25 none 4 78) (hQ : isQ k (PU Q)) (hin : (kt k).name = "copy") : ∀ (n : Nat) (v2 : Int32) (v3 : Option Nat) (v4 : Option Nat) (v5 : Int32) (M : hM), w_J25_copy_96 (kg k) F p0 p1 Q n v2 v3 v4 v5 M → GW k 6 M 96 [some (va_rf p0), some (va_rf p1), some (.int v2), some (va_rf v3), some (va_rf v4), some (.int v5)] [] := by
  intro n
  induction n with
  | zero =>
    intro v2 v3 v4 v5 M hw
    exact hw.elim
  | succ n ih =>
    intro v2 v3 v4 v5 M hw
    refine G_iload (pc := 96) (i := 5) hC dJ25_copy_96 rfl ?_
    refine G_iload_n (pc := 98) (i := 2) hC dJ25_copy_98 rfl rfl ?_
    refine G_icmp_ge (pc := 99) (tgt := 128) hC dJ25_copy_99 (by decide) (fun hc => ?_) (fun hc => ?_)
    · replace hw := hw.1 hc
      refine G_loc (lv' := [some (va_rf p0), some (va_rf p1), none, none, none, none]) ⟨Or.inr rfl, Or.inr rfl, Or.inl rfl, Or.inl rfl, Or.inl rfl, Or.inl rfl, trivial⟩ ?_
      exact g_J25_copy_128 hJ hC hQ hin   M hw
    · replace hw := hw.2 hc
      refine G_aload_n (pc := 102) (i := 3) hC dJ25_copy_102 rfl rfl ?_
      exact hw.elim
theorem g_J25_copy_78 {k : kT} {F : Nat} {p0 : Option Nat} {p1 : Option Nat} {Q : hM → Prop} (hJ : JK (kl k) (kg k)) (hC : CX k 6 cJ25_copy RJ25 none 4 78) (hQ : isQ k (PU Q)) (hin : (kt k).name = "copy") : ∀ (v2 : Int32) (M : hM), w_J25_copy_78 (kg k) F p0 p1 Q v2 M → GW k 6 M 78 [some (va_rf p0), some (va_rf p1), some (.int v2), none, none, none] [] := by
  intro v2 M hw
  refine G_aload_n (pc := 78) (i := 0) hC dJ25_copy_78 rfl rfl ?_
  exact hw.elim
theorem m_J25_copy {l : Launch} {g : gT} {F : Nat} {p0 : Option Nat} {p1 : Option Nat} {M : hM} {Q : hM → Prop} (hJ : JK l g) (hw : w_J25_copy g F p0 p1 M Q) : MG l g yJ25_copy (ws_ yJ25_copy cJ25_copy 6 none) 4 78 [va_rf p0, va_rf p1] M (PU Q) := by
  refine MG_of hJ.2.1 (by decide) (cat_r (cat_r cat_e)) (Nat.le_of_ble_eq_true rfl) (fun k hl hg hin hQ hC => ?_)
  subst hl hg
  show GW k 6 M 0 [some (va_rf p0), some (va_rf p1), none, none, none, none] []
  refine G_aload_n (pc := 0) (i := 1) hC dJ25_copy_0 rfl rfl ?_
  obtain ⟨b2, rfl, hb, hw⟩ := gThis_e hw
  refine G_callF (pc := 1) (n := 0) (x := ⟨"java/util/List", "size", "()I"⟩) (C := "java/util/ArrayList") (ci := 21) (T := TJ2) (N := 3) (b := b2) (As := []) (rest := []) hC (m_J2_size hJ hw) (lw_F q3312 q889 q363 q87 q364) (nw_in q888 rfl) (nw_in q887 rfl) (nw_in q891 rfl) (nw_in q890 rfl) (nw_in q259 rfl) rfl (rcv (C := RJ2) (T := TJ2) (N := 3) hC hb rfl) (by decide +kernel) (by decide) rfl rfl (st_c cat_e (Nat.le_of_ble_eq_true rfl)) dJ25_copy_1 (kI fun x3 M1 hw => ?_)
  refine G_istore_n (pc := 6) (i := 2) (lw := [some (va_rf p0), some (va_rf (some b2)), some (.int x3), none, none, none]) hC dJ25_copy_6 rfl (Nat.le_of_ble_eq_true rfl) rfl ?_
  refine G_iload_n (pc := 7) (i := 2) hC dJ25_copy_7 rfl rfl ?_
  refine G_aload_n (pc := 8) (i := 0) hC dJ25_copy_8 rfl rfl ?_
  obtain ⟨b5, rfl, hb, hw⟩ := gThis_e hw
  refine G_callF (pc := 9) (n := 0) (x := ⟨"java/util/List", "size", "()I"⟩) (C := "java/util/ArrayList") (ci := 21) (T := TJ2) (N := 3) (b := b5) (As := []) (rest := [.int x3]) hC (m_J2_size hJ hw) (lw_F q3312 q889 q363 q87 q364) (nw_in q888 rfl) (nw_in q887 rfl) (nw_in q891 rfl) (nw_in q890 rfl) (nw_in q259 rfl) rfl (rcv (C := RJ2) (T := TJ2) (N := 3) hC hb rfl) (by decide +kernel) (by decide) rfl rfl (st_c (cat_i cat_e) (Nat.le_of_ble_eq_true rfl)) dJ25_copy_9 (kI fun x6 M4 hw => ?_)
  refine G_icmp_le (pc := 14) (tgt := 27) hC dJ25_copy_14 (by decide) (fun hc => ?_) (fun hc => ?_)
  · replace hw := hw.1 hc
    refine G_iload_n (pc := 27) (i := 2) hC dJ25_copy_27 rfl rfl ?_
    refine G_bipush (pc := 28) (v := 10) hC dJ25_copy_28 (by decide) ?_
    refine G_icmp_lt (pc := 30) (tgt := 47) hC dJ25_copy_30 (by decide) (fun hc => ?_) (fun hc => ?_)
    · replace hw := hw.1 hc
      exact g_J25_copy_47 hJ hC hQ hin  x3 M4 hw
    · replace hw := hw.2 hc
      refine G_aload_n (pc := 33) (i := 1) hC dJ25_copy_33 rfl rfl ?_
      exact hw.elim
  · replace hw := hw.2 hc
    exact hw.elim
def w_J0_init_s22 (g : gT) (F : Nat) (a0 : Nat) (M : hM) (Q : hM → Prop) : Prop :=
  Q M
theorem m_J0_init_s22 {l : Launch} {g : gT} {F : Nat} {a0 : Nat} {M : hM} {Q : hM → Prop} (hJ : JK l g) (hw : w_J0_init_s22 g F a0 M Q) : MG l g yJ0_init (ws_ yJ0_init cJ0_init 1 none) 1 20 [va_rf (some a0)] M (PU Q) := by
  refine MG_of hJ.2.1 (by decide) (cat_r cat_e) (Nat.le_of_ble_eq_true rfl) (fun k hl hg hin hQ hC => ?_)
  subst hl hg
  show GW k 1 M 0 [some (va_rf (some a0))] []
  refine G_aload_n (pc := 0) (i := 0) hC dJ0_init_0 rfl rfl ?_
  refine G_objInit (pc := 1) hC q171 q158 q159 rfl rfl (st_c cat_e (Nat.le_of_ble_eq_true rfl)) dJ0_init_1 ?_
  exact G_ret (pc := 4) hC hQ dJ0_init_4 hw
theorem hdK_J0_init_s22 : yJ0_init.cls = "java/util/AbstractCollection" ∧ yJ0_init.cls ≠ "java/lang/invoke/MethodHandle" ∧ yJ0_init.cls ≠ "java/lang/invoke/VarHandle" ∧ (parseMethodDescriptor yJ0_init.desc).map (fun d => d.parameters.length) = some 0 := by decide +kernel
def w_J3_init (g : gT) (F : Nat) (a0 : Nat) (M : hM) (Q : hM → Prop) : Prop :=
  (isC M a0 22 ∧ w_J0_init_s22 g F a0  M (fun M1 => nA M1 6 (17 : Int32) (.inr (.inr (.inr (.inr (fun _ => none))))) fun q2 M3 => pV M3 (some a0) 22 0 (va_rf (some q2)) fun M4 => Q M4))
theorem m_J3_init {l : Launch} {g : gT} {F : Nat} {a0 : Nat} {M : hM} {Q : hM → Prop} (hJ : JK l g) (hw : w_J3_init g F a0 M Q) : MG l g yJ3_init (ws_ yJ3_init cJ3_init 1 none) 2 40 [va_rf (some a0)] M (PU Q) := by
  refine MG_of hJ.2.1 (by decide) (cat_r cat_e) (Nat.le_of_ble_eq_true rfl) (fun k hl hg hin hQ hC => ?_)
  subst hl hg
  show GW k 1 M 0 [some (va_rf (some a0))] []
  refine G_aload_n (pc := 0) (i := 0) hC dJ3_init_0 rfl rfl ?_
  obtain ⟨hb, hw⟩ := hw
  refine G_callI (pc := 1) (n := 0) (b := a0) (As := []) (rest := []) hC (m_J0_init_s22 hJ hw) (lw_meth q170) q85 q202 q169 rfl hdK_J0_init_s22.2 (by decide) rfl rfl (st_c cat_e (Nat.le_of_ble_eq_true rfl)) dJ3_init_1 (kU fun M1 hw => ?_)
  refine G_aload_n (pc := 4) (i := 0) hC dJ3_init_4 rfl rfl ?_
  refine G_bipush (pc := 5) (v := 17) hC dJ3_init_5 (by decide) ?_
  refine G_anewO (pc := 7) hC q203 dJ3_init_7 hw (fun q2 M3 hw => ?_)
  refine G_put (pc := 10) (ci := 22) (C := RJ3) (T := TJ3) (N := 3) (f := 0) tyJ3 hC rfl in_J3 tyJ3_ok nmJ3 (Nat.le_of_ble_eq_true rfl) q205 (fun _ h => h) rfl (nR_a _ _) (fR_a _ _) dJ3_init_10 hw (fun M4 hw => ?_)
  exact G_ret (pc := 13) hC hQ dJ3_init_13 hw
def w_J3_dec_11 (g : gT) (F : Nat) (p1 : Int32) (Q : Int32 → hM → Prop) (v0 : Int32) (M : hM) : Prop :=
  Q v0 M
def w_J3_dec (g : gT) (F : Nat) (p0 : Int32) (p1 : Int32) (M : hM) (Q : Int32 → hM → Prop) : Prop :=
  ((0 ≤ (p0 + (-1 : Int32)) → w_J3_dec_11 g F p1 Q (p0 + (-1 : Int32)) M) ∧ (¬ (0 ≤ (p0 + (-1 : Int32))) → w_J3_dec_11 g F p1 Q (p1 - (1 : Int32)) M))
theorem g_J3_dec_11 {k : kT} {F : Nat} {p1 : Int32} {Q : Int32 → hM → Prop} (hJ : JK (kl k) (kg k)) (hC : CX k 2 cJ3_dec RJ3 (some .int) 1 12) (hQ : isQ k (PI Q)) (hin : (kt k).name = "dec") : ∀ (v0 : Int32) (M : hM), w_J3_dec_11 (kg k) F p1 Q v0 M → GW k 2 M 11 [some (.int v0), some (.int p1)] [] := by
  intro v0 M hw
  refine G_iload_n (pc := 11) (i := 0) hC dJ3_dec_11 rfl rfl ?_
  exact G_iret (pc := 12) hC rfl hQ dJ3_dec_12 hw
theorem m_J3_dec {l : Launch} {g : gT} {F : Nat} {p0 : Int32} {p1 : Int32} {M : hM} {Q : Int32 → hM → Prop} (hJ : JK l g) (hw : w_J3_dec g F p0 p1 M Q) : MG l g yJ3_dec (ws_ yJ3_dec cJ3_dec 2 (some .int)) 1 12 [.int p0, .int p1] M (PI Q) := by
  refine MG_of hJ.2.1 (by decide) (cat_i (cat_i cat_e)) (Nat.le_of_ble_eq_true rfl) (fun k hl hg hin hQ hC => ?_)
  subst hl hg
  show GW k 2 M 0 [some (.int p0), some (.int p1)] []
  refine G_iinc (pc := 0) (i := 0) (v := (p0 + (-1 : Int32))) (lw := [some (.int (p0 + (-1 : Int32))), some (.int p1)]) hC dJ3_dec_0 rfl (Nat.le_of_ble_eq_true rfl) rfl rfl ?_
  refine G_iload_n (pc := 3) (i := 0) hC dJ3_dec_3 rfl rfl ?_
  refine G_if_ge (pc := 4) (tgt := 11) hC dJ3_dec_4 (by decide) (fun hc => ?_) (fun hc => ?_)
  · replace hw := hw.1 hc
    exact g_J3_dec_11 hJ hC hQ hin  (p0 + (-1 : Int32)) M hw
  · replace hw := hw.2 hc
    refine G_iload_n (pc := 7) (i := 1) hC dJ3_dec_7 rfl rfl ?_
    refine G_iconst (pc := 8) (v := 1) hC dJ3_dec_8 (by decide) ?_
    refine G_isub (pc := 9) hC dJ3_dec_9 ?_
    refine G_istore_n (pc := 10) (i := 0) (lw := [some (.int (p1 - (1 : Int32))), some (.int p1)]) hC dJ3_dec_10 rfl (Nat.le_of_ble_eq_true rfl) rfl ?_
    exact g_J3_dec_11 hJ hC hQ hin  (p1 - (1 : Int32)) M hw
def w_J3_newCapacity_61 (g : gT) (F : Nat) (a0 : Nat) (p1 : Int32) (p2 : Int32) (Q : Int32 → hM → Prop) (s0 : Int32) (M : hM) : Prop :=
  Q s0 M
def w_J3_newCapacity (g : gT) (F : Nat) (a0 : Nat) (p1 : Int32) (p2 : Int32) (M : hM) (Q : Int32 → hM → Prop) : Prop :=
  gF M (some a0) 22 0 fun x1 => aLenK g M x1 fun x2 => ((((x2 + p1) - (2147483639 : Int32)) ≤ 0 → ((p1 ≤ p2 → ((0 ≤ ((x2 + p2) - (2147483639 : Int32)) → w_J3_newCapacity_61 g F a0 p1 p2 Q (2147483639 : Int32) M) ∧ (¬ (0 ≤ ((x2 + p2) - (2147483639 : Int32))) → w_J3_newCapacity_61 g F a0 p1 p2 Q (x2 + p2) M))) ∧ (¬ (p1 ≤ p2) → Q (x2 + p1) M))) ∧ (¬ (((x2 + p1) - (2147483639 : Int32)) ≤ 0) → ((0 ≤ (x2 + p1) → Q (2147483647 : Int32) M) ∧ (¬ (0 ≤ (x2 + p1)) → False))))
theorem g_J3_newCapacity_61 {k : kT} {F : Nat} {a0 : Nat} {p1 : Int32} {p2 : Int32} {Q : Int32 → hM → Prop} (hJ : JK (kl k) (kg k)) (hC : CX k 5 cJ3_newCapacity RJ3 (some .int) 1 12) (hQ : isQ k (PI Q)) (hin : (kt k).name = "newCapacity") : ∀ (s0 : Int32) (M : hM), w_J3_newCapacity_61 (kg k) F a0 p1 p2 Q s0 M → GW k 5 M 61 [some (va_rf (some a0)), some (.int p1), some (.int p2), none, none] [.int s0] := by
  intro s0 M hw
  exact G_iret (pc := 61) hC rfl hQ dJ3_newCapacity_61 hw
theorem m_J3_newCapacity {l : Launch} {g : gT} {F : Nat} {a0 : Nat} {p1 : Int32} {p2 : Int32} {M : hM} {Q : Int32 → hM → Prop} (hJ : JK l g) (hw : w_J3_newCapacity g F a0 p1 p2 M Q) : MG l g yJ3_newCapacity (ws_ yJ3_newCapacity cJ3_newCapacity 5 (some .int)) 1 12 [va_rf (some a0), .int p1, .int p2] M (PI Q) := by
  refine MG_of hJ.2.1 (by decide) (cat_r (cat_i (cat_i cat_e))) (Nat.le_of_ble_eq_true rfl) (fun k hl hg hin hQ hC => ?_)
  subst hl hg
  show GW k 5 M 0 [some (va_rf (some a0)), some (.int p1), some (.int p2), none, none] []
  refine G_aload_n (pc := 0) (i := 0) hC dJ3_newCapacity_0 rfl rfl ?_
  refine G_getF (pc := 1) (ci := 22) (C := RJ3) (T := TJ3) (N := 3) (f := 0) hC rfl in_J3 (Nat.le_of_ble_eq_true rfl) q205 (fun _ h => h) dJ3_newCapacity_1 hw (fun x1 hw => ?_)
  refine G_alenK (pc := 4) hJ hC dJ3_newCapacity_4 hw (fun x2 hw => ?_)
  refine G_istore_n (pc := 5) (i := 3) (lw := [some (va_rf (some a0)), some (.int p1), some (.int p2), some (.int x2), none]) hC dJ3_newCapacity_5 rfl (Nat.le_of_ble_eq_true rfl) rfl ?_
  refine G_iload_n (pc := 6) (i := 3) hC dJ3_newCapacity_6 rfl rfl ?_
  refine G_iload_n (pc := 7) (i := 1) hC dJ3_newCapacity_7 rfl rfl ?_
  refine G_iadd (pc := 8) hC dJ3_newCapacity_8 ?_
  refine G_dup (pc := 9) hC dJ3_newCapacity_9 rfl ?_
  refine G_istore (pc := 10) (i := 4) (lw := [some (va_rf (some a0)), some (.int p1), some (.int p2), some (.int x2), some (.int (x2 + p1))]) hC dJ3_newCapacity_10 (Nat.le_of_ble_eq_true rfl) rfl ?_
  refine G_ldcI (pc := 12) (v := 2147483639) hC q1308 dJ3_newCapacity_12 ?_
  refine G_isub (pc := 14) hC dJ3_newCapacity_14 ?_
  refine G_if_le (pc := 15) (tgt := 36) hC dJ3_newCapacity_15 (by decide) (fun hc => ?_) (fun hc => ?_)
  · replace hw := hw.1 hc
    refine G_iload_n (pc := 36) (i := 1) hC dJ3_newCapacity_36 rfl rfl ?_
    refine G_iload_n (pc := 37) (i := 2) hC dJ3_newCapacity_37 rfl rfl ?_
    refine G_icmp_le (pc := 38) (tgt := 44) hC dJ3_newCapacity_38 (by decide) (fun hc => ?_) (fun hc => ?_)
    · replace hw := hw.1 hc
      refine G_iload_n (pc := 44) (i := 3) hC dJ3_newCapacity_44 rfl rfl ?_
      refine G_iload_n (pc := 45) (i := 2) hC dJ3_newCapacity_45 rfl rfl ?_
      refine G_iadd (pc := 46) hC dJ3_newCapacity_46 ?_
      refine G_ldcI (pc := 47) (v := 2147483639) hC q1308 dJ3_newCapacity_47 ?_
      refine G_isub (pc := 49) hC dJ3_newCapacity_49 ?_
      refine G_if_ge (pc := 50) (tgt := 59) hC dJ3_newCapacity_50 (by decide) (fun hc => ?_) (fun hc => ?_)
      · replace hw := hw.1 hc
        refine G_ldcI (pc := 59) (v := 2147483639) hC q1308 dJ3_newCapacity_59 ?_
        refine G_loc (lv' := [some (va_rf (some a0)), some (.int p1), some (.int p2), none, none]) ⟨Or.inr rfl, Or.inr rfl, Or.inr rfl, Or.inl rfl, Or.inl rfl, trivial⟩ ?_
        exact g_J3_newCapacity_61 hJ hC hQ hin  (2147483639 : Int32) M hw
      · replace hw := hw.2 hc
        refine G_iload_n (pc := 53) (i := 3) hC dJ3_newCapacity_53 rfl rfl ?_
        refine G_iload_n (pc := 54) (i := 2) hC dJ3_newCapacity_54 rfl rfl ?_
        refine G_iadd (pc := 55) hC dJ3_newCapacity_55 ?_
        refine G_goto (pc := 56) (tgt := 61) hC dJ3_newCapacity_56 (by decide) ?_
        refine G_loc (lv' := [some (va_rf (some a0)), some (.int p1), some (.int p2), none, none]) ⟨Or.inr rfl, Or.inr rfl, Or.inr rfl, Or.inl rfl, Or.inl rfl, trivial⟩ ?_
        exact g_J3_newCapacity_61 hJ hC hQ hin  (x2 + p2) M hw
    · replace hw := hw.2 hc
      refine G_iload (pc := 41) (i := 4) hC dJ3_newCapacity_41 rfl ?_
      exact G_iret (pc := 43) hC rfl hQ dJ3_newCapacity_43 hw
  · replace hw := hw.2 hc
    refine G_iload (pc := 18) (i := 4) hC dJ3_newCapacity_18 rfl ?_
    refine G_if_ge (pc := 20) (tgt := 33) hC dJ3_newCapacity_20 (by decide) (fun hc => ?_) (fun hc => ?_)
    · replace hw := hw.1 hc
      refine G_ldcI (pc := 33) (v := 2147483647) hC q1319 dJ3_newCapacity_33 ?_
      exact G_iret (pc := 35) hC rfl hQ dJ3_newCapacity_35 hw
    · replace hw := hw.2 hc
      exact hw.elim
theorem hdK_J3_newCapacity : yJ3_newCapacity.cls = "java/util/ArrayDeque" ∧ yJ3_newCapacity.cls ≠ "java/lang/invoke/MethodHandle" ∧ yJ3_newCapacity.cls ≠ "java/lang/invoke/VarHandle" ∧ (parseMethodDescriptor yJ3_newCapacity.desc).map (fun d => d.parameters.length) = some 2 := by decide +kernel
def w_J3_grow_164 (g : gT) (F : Nat) (a0 : Nat) (p1 : Int32) (Q : hM → Prop) (M : hM) : Prop :=
  Q M
def w_J3_grow_145 (g : gT) (F : Nat) (a0 : Nat) (p1 : Int32) (Q : hM → Prop) : Nat → (Option Nat) → Int32 → Int32 → hM → Prop
  | 0, _, _, _, _ => False
  | n + 1, v5, v7, v8, M => ((v8 ≤ v7 → w_J3_grow_164 g F a0 p1 Q M) ∧ (¬ (v8 ≤ v7) → sR g M v5 v7 none fun M1 => w_J3_grow_145 g F a0 p1 Q n v5 (v7 + (1 : Int32)) v8 M1))
def w_J3_grow_96 (g : gT) (F : Nat) (a0 : Nat) (p1 : Int32) (Q : hM → Prop) (v2 : Int32) (v3 : Int32) (v5 : Option Nat) (M : hM) : Prop :=
  gI M (some a0) 22 1 fun x1 => gI M (some a0) 22 1 fun x2 => gI M (some a0) 22 1 fun x3 => cQ g M v5 x1 v5 (x2 + (v3 - v2)) (v2 - x3) fun M4 => gI M4 (some a0) 22 1 fun x5 => gI M4 (some a0) 22 1 fun x6 => pV M4 (some a0) 22 1 (.int (x6 + (v3 - v2))) fun M7 => w_J3_grow_145 g F a0 p1 Q F v5 x5 (x6 + (v3 - v2)) M7
def w_J3_grow_49 (g : gT) (F : Nat) (a0 : Nat) (p1 : Int32) (Q : hM → Prop) (v2 : Int32) (v3 : Int32) (M : hM) : Prop :=
  gF M (some a0) 22 0 fun x1 => w_J10_copyOf g F x1 v3 M (fun x3 M2 => pV M2 (some a0) 22 0 (va_rf x3) fun M4 => gI M4 (some a0) 22 2 fun x5 => gI M4 (some a0) 22 1 fun x6 => ((x5 < x6 → w_J3_grow_96 g F a0 p1 Q v2 v3 x3 M4) ∧ (¬ (x5 < x6) → gI M4 (some a0) 22 2 fun x7 => gI M4 (some a0) 22 1 fun x8 => ((¬ x7 = x8 → w_J3_grow_164 g F a0 p1 Q M4) ∧ (x7 = x8 → gI M4 (some a0) 22 1 fun x9 => aR M4 x3 x9 fun x10 => ((x10 = none → w_J3_grow_164 g F a0 p1 Q M4) ∧ (¬ x10 = none → w_J3_grow_96 g F a0 p1 Q v2 v3 x3 M4)))))))
def w_J3_grow_41 (g : gT) (F : Nat) (a0 : Nat) (p1 : Int32) (Q : hM → Prop) (v2 : Int32) (v4 : Int32) (M : hM) : Prop :=
  (isC M a0 22 ∧ w_J3_newCapacity g F a0 p1 v4 M (fun x2 M1 => w_J3_grow_49 g F a0 p1 Q v2 x2 M1))
def w_J3_grow_21 (g : gT) (F : Nat) (a0 : Nat) (p1 : Int32) (Q : hM → Prop) (v2 : Int32) (s0 : Int32) (M : hM) : Prop :=
  ((s0 < p1 → w_J3_grow_41 g F a0 p1 Q v2 s0 M) ∧ (¬ (s0 < p1) → ((((v2 + s0) - (2147483639 : Int32)) ≤ 0 → w_J3_grow_49 g F a0 p1 Q v2 (v2 + s0) M) ∧ (¬ (((v2 + s0) - (2147483639 : Int32)) ≤ 0) → w_J3_grow_41 g F a0 p1 Q v2 s0 M))))
def w_J3_grow (g : gT) (F : Nat) (a0 : Nat) (p1 : Int32) (M : hM) (Q : hM → Prop) : Prop :=
  gF M (some a0) 22 0 fun x1 => aLenK g M x1 fun x2 => (((64 : Int32) ≤ x2 → w_J3_grow_21 g F a0 p1 Q x2 (x2 >>> ((1 : Int32) &&& 31)) M) ∧ (¬ ((64 : Int32) ≤ x2) → w_J3_grow_21 g F a0 p1 Q x2 (x2 + (2 : Int32)) M))
theorem g_J3_grow_164 {k : kT} {F : Nat} {a0 : Nat} {p1 : Int32} {Q : hM → Prop} (hJ : JK (kl k) (kg k)) (hC : CX k 9 cJ3_grow RJ3 none 3 84) (hQ : isQ k (PU Q)) (hin : (kt k).name = "grow") : ∀  (M : hM), w_J3_grow_164 (kg k) F a0 p1 Q  M → GW k 9 M 164 [some (va_rf (some a0)), some (.int p1), none, none, none, none, none, none, none] [] := by
  intro  M hw
  exact G_ret (pc := 164) hC hQ dJ3_grow_164 hw
theorem g_J3_grow_145 {k : kT} {F : Nat} {a0 : Nat} {p1 : Int32} {Q : hM → Prop} (hJ : JK (kl k) (kg k)) (hC : CX k 9 cJ3_grow RJ3 none 3 84) (hQ : isQ k (PU Q)) (hin : (kt k).name = "grow") : ∀ (n : Nat) (v5 : Option Nat) (v7 : Int32) (v8 : Int32) (M : hM), w_J3_grow_145 (kg k) F a0 p1 Q n v5 v7 v8 M → GW k 9 M 145 [some (va_rf (some a0)), some (.int p1), none, none, none, some (va_rf v5), none, some (.int v7), some (.int v8)] [] := by
  intro n
  induction n with
  | zero =>
    intro v5 v7 v8 M hw
    exact hw.elim
  | succ n ih =>
    intro v5 v7 v8 M hw
    refine G_iload (pc := 145) (i := 7) hC dJ3_grow_145 rfl ?_
    refine G_iload (pc := 147) (i := 8) hC dJ3_grow_147 rfl ?_
    refine G_icmp_ge (pc := 149) (tgt := 164) hC dJ3_grow_149 (by decide) (fun hc => ?_) (fun hc => ?_)
    · replace hw := hw.1 hc
      refine G_loc (lv' := [some (va_rf (some a0)), some (.int p1), none, none, none, none, none, none, none]) ⟨Or.inr rfl, Or.inr rfl, Or.inr rfl, Or.inr rfl, Or.inr rfl, Or.inl rfl, Or.inr rfl, Or.inl rfl, Or.inl rfl, trivial⟩ ?_
      exact g_J3_grow_164 hJ hC hQ hin   M hw
    · replace hw := hw.2 hc
      refine G_aload (pc := 152) (i := 5) hC dJ3_grow_152 rfl ?_
      refine G_iload (pc := 154) (i := 7) hC dJ3_grow_154 rfl ?_
      refine G_null (pc := 156) hC dJ3_grow_156 ?_
      refine G_aastO (pc := 157) hJ hC dJ3_grow_157 hw (fun M1 hw => ?_)
      refine G_iinc (pc := 158) (i := 7) (v := (v7 + (1 : Int32))) (lw := [some (va_rf (some a0)), some (.int p1), none, none, none, some (va_rf v5), none, some (.int (v7 + (1 : Int32))), some (.int v8)]) hC dJ3_grow_158 rfl (Nat.le_of_ble_eq_true rfl) rfl rfl ?_
      refine G_goto (pc := 161) (tgt := 145) hC dJ3_grow_161 (by decide) ?_
      exact ih v5 (v7 + (1 : Int32)) v8 M1 hw
theorem g_J3_grow_96 {k : kT} {F : Nat} {a0 : Nat} {p1 : Int32} {Q : hM → Prop} (hJ : JK (kl k) (kg k)) (hC : CX k 9 cJ3_grow RJ3 none 3 84) (hQ : isQ k (PU Q)) (hin : (kt k).name = "grow") : ∀ (v2 : Int32) (v3 : Int32) (v5 : Option Nat) (M : hM), w_J3_grow_96 (kg k) F a0 p1 Q v2 v3 v5 M → GW k 9 M 96 [some (va_rf (some a0)), some (.int p1), some (.int v2), some (.int v3), none, some (va_rf v5), none, none, none] [] := by
  intro v2 v3 v5 M hw
  refine G_iload_n (pc := 96) (i := 3) hC dJ3_grow_96 rfl rfl ?_
  refine G_iload_n (pc := 97) (i := 2) hC dJ3_grow_97 rfl rfl ?_
  refine G_isub (pc := 98) hC dJ3_grow_98 ?_
  refine G_istore (pc := 99) (i := 6) (lw := [some (va_rf (some a0)), some (.int p1), some (.int v2), some (.int v3), none, some (va_rf v5), some (.int (v3 - v2)), none, none]) hC dJ3_grow_99 (Nat.le_of_ble_eq_true rfl) rfl ?_
  refine G_aload (pc := 101) (i := 5) hC dJ3_grow_101 rfl ?_
  refine G_aload_n (pc := 103) (i := 0) hC dJ3_grow_103 rfl rfl ?_
  refine G_getI (pc := 104) (ci := 22) (C := RJ3) (T := TJ3) (N := 3) (f := 1) hC rfl in_J3 (Nat.le_of_ble_eq_true rfl) q208 (fun _ h => h) dJ3_grow_104 hw (fun x1 hw => ?_)
  refine G_aload (pc := 107) (i := 5) hC dJ3_grow_107 rfl ?_
  refine G_aload_n (pc := 109) (i := 0) hC dJ3_grow_109 rfl rfl ?_
  refine G_getI (pc := 110) (ci := 22) (C := RJ3) (T := TJ3) (N := 3) (f := 1) hC rfl in_J3 (Nat.le_of_ble_eq_true rfl) q208 (fun _ h => h) dJ3_grow_110 hw (fun x2 hw => ?_)
  refine G_iload (pc := 113) (i := 6) hC dJ3_grow_113 rfl ?_
  refine G_iadd (pc := 115) hC dJ3_grow_115 ?_
  refine G_iload_n (pc := 116) (i := 2) hC dJ3_grow_116 rfl rfl ?_
  refine G_aload_n (pc := 117) (i := 0) hC dJ3_grow_117 rfl rfl ?_
  refine G_getI (pc := 118) (ci := 22) (C := RJ3) (T := TJ3) (N := 3) (f := 1) hC rfl in_J3 (Nat.le_of_ble_eq_true rfl) q208 (fun _ h => h) dJ3_grow_118 hw (fun x3 hw => ?_)
  refine G_isub (pc := 121) hC dJ3_grow_121 ?_
  refine G_copyQ (pc := 122) hJ hC q754 q350 q349 q97 (st_c cat_e (Nat.le_of_ble_eq_true rfl)) rfl rfl dJ3_grow_122 hw (fun M4 hw => ?_)
  refine G_aload_n (pc := 125) (i := 0) hC dJ3_grow_125 rfl rfl ?_
  refine G_getI (pc := 126) (ci := 22) (C := RJ3) (T := TJ3) (N := 3) (f := 1) hC rfl in_J3 (Nat.le_of_ble_eq_true rfl) q208 (fun _ h => h) dJ3_grow_126 hw (fun x5 hw => ?_)
  refine G_istore (pc := 129) (i := 7) (lw := [some (va_rf (some a0)), some (.int p1), some (.int v2), some (.int v3), none, some (va_rf v5), some (.int (v3 - v2)), some (.int x5), none]) hC dJ3_grow_129 (Nat.le_of_ble_eq_true rfl) rfl ?_
  refine G_aload_n (pc := 131) (i := 0) hC dJ3_grow_131 rfl rfl ?_
  refine G_dup (pc := 132) hC dJ3_grow_132 (rf_cat _) ?_
  refine G_getI (pc := 133) (ci := 22) (C := RJ3) (T := TJ3) (N := 3) (f := 1) hC rfl in_J3 (Nat.le_of_ble_eq_true rfl) q208 (fun _ h => h) dJ3_grow_133 hw (fun x6 hw => ?_)
  refine G_iload (pc := 136) (i := 6) hC dJ3_grow_136 rfl ?_
  refine G_iadd (pc := 138) hC dJ3_grow_138 ?_
  refine G_dup_x1 (pc := 139) hC dJ3_grow_139 rfl (rf_cat _) ?_
  refine G_put (pc := 140) (ci := 22) (C := RJ3) (T := TJ3) (N := 3) (f := 1) tyJ3 hC rfl in_J3 tyJ3_ok nmJ3 (Nat.le_of_ble_eq_true rfl) q208 (fun _ h => h) rfl rfl rfl dJ3_grow_140 hw (fun M7 hw => ?_)
  refine G_istore (pc := 143) (i := 8) (lw := [some (va_rf (some a0)), some (.int p1), some (.int v2), some (.int v3), none, some (va_rf v5), some (.int (v3 - v2)), some (.int x5), some (.int (x6 + (v3 - v2)))]) hC dJ3_grow_143 (Nat.le_of_ble_eq_true rfl) rfl ?_
  refine G_loc (lv' := [some (va_rf (some a0)), some (.int p1), none, none, none, some (va_rf v5), none, some (.int x5), some (.int (x6 + (v3 - v2)))]) ⟨Or.inr rfl, Or.inr rfl, Or.inl rfl, Or.inl rfl, Or.inr rfl, Or.inr rfl, Or.inl rfl, Or.inr rfl, Or.inr rfl, trivial⟩ ?_
  exact g_J3_grow_145 hJ hC hQ hin _ v5 x5 (x6 + (v3 - v2)) M7 hw
theorem g_J3_grow_49 {k : kT} {F : Nat} {a0 : Nat} {p1 : Int32} {Q : hM → Prop} (hJ : JK (kl k) (kg k)) (hC : CX k 9 cJ3_grow RJ3 none 3 84) (hQ : isQ k (PU Q)) (hin : (kt k).name = "grow") : ∀ (v2 : Int32) (v3 : Int32) (M : hM), w_J3_grow_49 (kg k) F a0 p1 Q v2 v3 M → GW k 9 M 49 [some (va_rf (some a0)), some (.int p1), some (.int v2), some (.int v3), none, none, none, none, none] [] := by
  intro v2 v3 M hw
  refine G_aload_n (pc := 49) (i := 0) hC dJ3_grow_49 rfl rfl ?_
  refine G_aload_n (pc := 50) (i := 0) hC dJ3_grow_50 rfl rfl ?_
  refine G_getF (pc := 51) (ci := 22) (C := RJ3) (T := TJ3) (N := 3) (f := 0) hC rfl in_J3 (Nat.le_of_ble_eq_true rfl) q205 (fun _ h => h) dJ3_grow_51 hw (fun x1 hw => ?_)
  refine G_iload_n (pc := 54) (i := 3) hC dJ3_grow_54 rfl rfl ?_
  refine G_callS (pc := 55) (n := 2) (As := [va_rf x1, .int v3]) (rest := [va_rf (some a0)]) hC (m_J10_copyOf hJ hw) (lw_S q1320 q288 q96 q289) hdK_J10_copyOf.2 (by decide) rfl rfl (st_c (cat_r cat_e) (Nat.le_of_ble_eq_true rfl)) dJ3_grow_55 (kRf fun x3 M2 hw => ?_)
  refine G_dup_x1 (pc := 58) hC dJ3_grow_58 (rf_cat _) (rf_cat _) ?_
  refine G_put (pc := 59) (ci := 22) (C := RJ3) (T := TJ3) (N := 3) (f := 0) tyJ3 hC rfl in_J3 tyJ3_ok nmJ3 (Nat.le_of_ble_eq_true rfl) q205 (fun _ h => h) rfl (nR_a _ _) (fR_a _ _) dJ3_grow_59 hw (fun M4 hw => ?_)
  refine G_astore (pc := 62) (i := 5) (lw := [some (va_rf (some a0)), some (.int p1), some (.int v2), some (.int v3), none, some (va_rf x3), none, none, none]) hC dJ3_grow_62 (Nat.le_of_ble_eq_true rfl) rfl ?_
  refine G_aload_n (pc := 64) (i := 0) hC dJ3_grow_64 rfl rfl ?_
  refine G_getI (pc := 65) (ci := 22) (C := RJ3) (T := TJ3) (N := 3) (f := 2) hC rfl in_J3 (Nat.le_of_ble_eq_true rfl) q209 (fun _ h => h) dJ3_grow_65 hw (fun x5 hw => ?_)
  refine G_aload_n (pc := 68) (i := 0) hC dJ3_grow_68 rfl rfl ?_
  refine G_getI (pc := 69) (ci := 22) (C := RJ3) (T := TJ3) (N := 3) (f := 1) hC rfl in_J3 (Nat.le_of_ble_eq_true rfl) q208 (fun _ h => h) dJ3_grow_69 hw (fun x6 hw => ?_)
  refine G_icmp_lt (pc := 72) (tgt := 96) hC dJ3_grow_72 (by decide) (fun hc => ?_) (fun hc => ?_)
  · replace hw := hw.1 hc
    exact g_J3_grow_96 hJ hC hQ hin  v2 v3 x3 M4 hw
  · replace hw := hw.2 hc
    refine G_aload_n (pc := 75) (i := 0) hC dJ3_grow_75 rfl rfl ?_
    refine G_getI (pc := 76) (ci := 22) (C := RJ3) (T := TJ3) (N := 3) (f := 2) hC rfl in_J3 (Nat.le_of_ble_eq_true rfl) q209 (fun _ h => h) dJ3_grow_76 hw (fun x7 hw => ?_)
    refine G_aload_n (pc := 79) (i := 0) hC dJ3_grow_79 rfl rfl ?_
    refine G_getI (pc := 80) (ci := 22) (C := RJ3) (T := TJ3) (N := 3) (f := 1) hC rfl in_J3 (Nat.le_of_ble_eq_true rfl) q208 (fun _ h => h) dJ3_grow_80 hw (fun x8 hw => ?_)
    refine G_icmp_ne (pc := 83) (tgt := 164) hC dJ3_grow_83 (by decide) (fun hc => ?_) (fun hc => ?_)
    · replace hw := hw.1 hc
      refine G_loc (lv' := [some (va_rf (some a0)), some (.int p1), none, none, none, none, none, none, none]) ⟨Or.inr rfl, Or.inr rfl, Or.inl rfl, Or.inl rfl, Or.inr rfl, Or.inl rfl, Or.inr rfl, Or.inr rfl, Or.inr rfl, trivial⟩ ?_
      exact g_J3_grow_164 hJ hC hQ hin   M4 hw
    · replace hw := hw.2 hc
      refine G_aload (pc := 86) (i := 5) hC dJ3_grow_86 rfl ?_
      refine G_aload_n (pc := 88) (i := 0) hC dJ3_grow_88 rfl rfl ?_
      refine G_getI (pc := 89) (ci := 22) (C := RJ3) (T := TJ3) (N := 3) (f := 1) hC rfl in_J3 (Nat.le_of_ble_eq_true rfl) q208 (fun _ h => h) dJ3_grow_89 hw (fun x9 hw => ?_)
      refine G_aald (pc := 92) hC dJ3_grow_92 hw (fun x10 hw => ?_)
      refine G_ifnull (pc := 93) (tgt := 164) hC dJ3_grow_93 (by decide) (fun hc => ?_) (fun hc => ?_)
      · replace hw := hw.1 hc
        refine G_loc (lv' := [some (va_rf (some a0)), some (.int p1), none, none, none, none, none, none, none]) ⟨Or.inr rfl, Or.inr rfl, Or.inl rfl, Or.inl rfl, Or.inr rfl, Or.inl rfl, Or.inr rfl, Or.inr rfl, Or.inr rfl, trivial⟩ ?_
        exact g_J3_grow_164 hJ hC hQ hin   M4 hw
      · replace hw := hw.2 hc
        exact g_J3_grow_96 hJ hC hQ hin  v2 v3 x3 M4 hw
theorem g_J3_grow_41 {k : kT} {F : Nat} {a0 : Nat} {p1 : Int32} {Q : hM → Prop} (hJ : JK (kl k) (kg k)) (hC : CX k 9 cJ3_grow RJ3 none 3 84) (hQ : isQ k (PU Q)) (hin : (kt k).name = "grow") : ∀ (v2 : Int32) (v4 : Int32) (M : hM), w_J3_grow_41 (kg k) F a0 p1 Q v2 v4 M → GW k 9 M 41 [some (va_rf (some a0)), some (.int p1), some (.int v2), none, some (.int v4), none, none, none, none] [] := by
  intro v2 v4 M hw
  refine G_aload_n (pc := 41) (i := 0) hC dJ3_grow_41 rfl rfl ?_
  refine G_iload_n (pc := 42) (i := 1) hC dJ3_grow_42 rfl rfl ?_
  refine G_iload (pc := 43) (i := 4) hC dJ3_grow_43 rfl ?_
  obtain ⟨hb, hw⟩ := hw
  refine G_callV (pc := 45) (n := 2) (C := "java/util/ArrayDeque") (b := a0) (As := [.int p1, .int v4]) (rest := []) hC (m_J3_newCapacity hJ hw) (lw_V q1309 q1311 qs13 q89 q1312) hdK_J3_newCapacity (by decide) (rcv (C := RJ3) (T := TJ3) (N := 3) hC hb rfl) rfl rfl (st_c cat_e (Nat.le_of_ble_eq_true rfl)) dJ3_grow_45 (kI fun x2 M1 hw => ?_)
  refine G_istore_n (pc := 48) (i := 3) (lw := [some (va_rf (some a0)), some (.int p1), some (.int v2), some (.int x2), some (.int v4), none, none, none, none]) hC dJ3_grow_48 rfl (Nat.le_of_ble_eq_true rfl) rfl ?_
  refine G_loc (lv' := [some (va_rf (some a0)), some (.int p1), some (.int v2), some (.int x2), none, none, none, none, none]) ⟨Or.inr rfl, Or.inr rfl, Or.inr rfl, Or.inr rfl, Or.inl rfl, Or.inr rfl, Or.inr rfl, Or.inr rfl, Or.inr rfl, trivial⟩ ?_
  exact g_J3_grow_49 hJ hC hQ hin  v2 x2 M1 hw
theorem g_J3_grow_21 {k : kT} {F : Nat} {a0 : Nat} {p1 : Int32} {Q : hM → Prop} (hJ : JK (kl k) (kg k)) (hC : CX k 9 cJ3_grow RJ3 none 3 84) (hQ : isQ k (PU Q)) (hin : (kt k).name = "grow") : ∀ (v2 : Int32) (s0 : Int32) (M : hM), w_J3_grow_21 (kg k) F a0 p1 Q v2 s0 M → GW k 9 M 21 [some (va_rf (some a0)), some (.int p1), some (.int v2), none, none, none, none, none, none] [.int s0] := by
  intro v2 s0 M hw
  refine G_istore (pc := 21) (i := 4) (lw := [some (va_rf (some a0)), some (.int p1), some (.int v2), none, some (.int s0), none, none, none, none]) hC dJ3_grow_21 (Nat.le_of_ble_eq_true rfl) rfl ?_
  refine G_iload (pc := 23) (i := 4) hC dJ3_grow_23 rfl ?_
  refine G_iload_n (pc := 25) (i := 1) hC dJ3_grow_25 rfl rfl ?_
  refine G_icmp_lt (pc := 26) (tgt := 41) hC dJ3_grow_26 (by decide) (fun hc => ?_) (fun hc => ?_)
  · replace hw := hw.1 hc
    exact g_J3_grow_41 hJ hC hQ hin  v2 s0 M hw
  · replace hw := hw.2 hc
    refine G_iload_n (pc := 29) (i := 2) hC dJ3_grow_29 rfl rfl ?_
    refine G_iload (pc := 30) (i := 4) hC dJ3_grow_30 rfl ?_
    refine G_iadd (pc := 32) hC dJ3_grow_32 ?_
    refine G_dup (pc := 33) hC dJ3_grow_33 rfl ?_
    refine G_istore_n (pc := 34) (i := 3) (lw := [some (va_rf (some a0)), some (.int p1), some (.int v2), some (.int (v2 + s0)), some (.int s0), none, none, none, none]) hC dJ3_grow_34 rfl (Nat.le_of_ble_eq_true rfl) rfl ?_
    refine G_ldcI (pc := 35) (v := 2147483639) hC q1308 dJ3_grow_35 ?_
    refine G_isub (pc := 37) hC dJ3_grow_37 ?_
    refine G_if_le (pc := 38) (tgt := 49) hC dJ3_grow_38 (by decide) (fun hc => ?_) (fun hc => ?_)
    · replace hw := hw.1 hc
      refine G_loc (lv' := [some (va_rf (some a0)), some (.int p1), some (.int v2), some (.int (v2 + s0)), none, none, none, none, none]) ⟨Or.inr rfl, Or.inr rfl, Or.inr rfl, Or.inr rfl, Or.inl rfl, Or.inr rfl, Or.inr rfl, Or.inr rfl, Or.inr rfl, trivial⟩ ?_
      exact g_J3_grow_49 hJ hC hQ hin  v2 (v2 + s0) M hw
    · replace hw := hw.2 hc
      refine G_loc (lv' := [some (va_rf (some a0)), some (.int p1), some (.int v2), none, some (.int s0), none, none, none, none]) ⟨Or.inr rfl, Or.inr rfl, Or.inr rfl, Or.inl rfl, Or.inr rfl, Or.inr rfl, Or.inr rfl, Or.inr rfl, Or.inr rfl, trivial⟩ ?_
      exact g_J3_grow_41 hJ hC hQ hin  v2 s0 M hw
theorem m_J3_grow {l : Launch} {g : gT} {F : Nat} {a0 : Nat} {p1 : Int32} {M : hM} {Q : hM → Prop} (hJ : JK l g) (hw : w_J3_grow g F a0 p1 M Q) : MG l g yJ3_grow (ws_ yJ3_grow cJ3_grow 9 none) 3 84 [va_rf (some a0), .int p1] M (PU Q) := by
  refine MG_of hJ.2.1 (by decide) (cat_r (cat_i cat_e)) (Nat.le_of_ble_eq_true rfl) (fun k hl hg hin hQ hC => ?_)
  subst hl hg
  show GW k 9 M 0 [some (va_rf (some a0)), some (.int p1), none, none, none, none, none, none, none] []
  refine G_aload_n (pc := 0) (i := 0) hC dJ3_grow_0 rfl rfl ?_
  refine G_getF (pc := 1) (ci := 22) (C := RJ3) (T := TJ3) (N := 3) (f := 0) hC rfl in_J3 (Nat.le_of_ble_eq_true rfl) q205 (fun _ h => h) dJ3_grow_1 hw (fun x1 hw => ?_)
  refine G_alenK (pc := 4) hJ hC dJ3_grow_4 hw (fun x2 hw => ?_)
  refine G_istore_n (pc := 5) (i := 2) (lw := [some (va_rf (some a0)), some (.int p1), some (.int x2), none, none, none, none, none, none]) hC dJ3_grow_5 rfl (Nat.le_of_ble_eq_true rfl) rfl ?_
  refine G_iload_n (pc := 6) (i := 2) hC dJ3_grow_6 rfl rfl ?_
  refine G_bipush (pc := 7) (v := 64) hC dJ3_grow_7 (by decide) ?_
  refine G_icmp_ge (pc := 9) (tgt := 18) hC dJ3_grow_9 (by decide) (fun hc => ?_) (fun hc => ?_)
  · replace hw := hw.1 hc
    refine G_iload_n (pc := 18) (i := 2) hC dJ3_grow_18 rfl rfl ?_
    refine G_iconst (pc := 19) (v := 1) hC dJ3_grow_19 (by decide) ?_
    refine G_ishr (pc := 20) hC dJ3_grow_20 ?_
    exact g_J3_grow_21 hJ hC hQ hin  x2 (x2 >>> ((1 : Int32) &&& 31)) M hw
  · replace hw := hw.2 hc
    refine G_iload_n (pc := 12) (i := 2) hC dJ3_grow_12 rfl rfl ?_
    refine G_iconst (pc := 13) (v := 2) hC dJ3_grow_13 (by decide) ?_
    refine G_iadd (pc := 14) hC dJ3_grow_14 ?_
    refine G_goto (pc := 15) (tgt := 21) hC dJ3_grow_15 (by decide) ?_
    exact g_J3_grow_21 hJ hC hQ hin  x2 (x2 + (2 : Int32)) M hw
theorem hdK_J3_dec : yJ3_dec.cls = "java/util/ArrayDeque" ∧ yJ3_dec.cls ≠ "java/lang/invoke/MethodHandle" ∧ yJ3_dec.cls ≠ "java/lang/invoke/VarHandle" ∧ (parseMethodDescriptor yJ3_dec.desc).map (fun d => d.parameters.length) = some 2 := by decide +kernel
theorem hdK_J3_grow : yJ3_grow.cls = "java/util/ArrayDeque" ∧ yJ3_grow.cls ≠ "java/lang/invoke/MethodHandle" ∧ yJ3_grow.cls ≠ "java/lang/invoke/VarHandle" ∧ (parseMethodDescriptor yJ3_grow.desc).map (fun d => d.parameters.length) = some 1 := by decide +kernel
def w_J3_addFirst_50 (g : gT) (F : Nat) (a0 : Nat) (p1 : Option Nat) (Q : hM → Prop) (M : hM) : Prop :=
  Q M
def w_J3_addFirst (g : gT) (F : Nat) (a0 : Nat) (p1 : Option Nat) (M : hM) (Q : hM → Prop) : Prop :=
  ((¬ p1 = none → gF M (some a0) 22 0 fun x1 => gI M (some a0) 22 1 fun x2 => aLenK g M x1 fun x3 => w_J3_dec g F x2 x3 M (fun x5 M4 => pV M4 (some a0) 22 1 (.int x5) fun M6 => sR g M6 x1 x5 p1 fun M7 => gI M7 (some a0) 22 1 fun x8 => gI M7 (some a0) 22 2 fun x9 => ((¬ x8 = x9 → w_J3_addFirst_50 g F a0 p1 Q M7) ∧ (x8 = x9 → (isC M7 a0 22 ∧ w_J3_grow g F a0 (1 : Int32) M7 (fun M10 => w_J3_addFirst_50 g F a0 p1 Q M10)))))) ∧ (p1 = none → False))
theorem g_J3_addFirst_50 {k : kT} {F : Nat} {a0 : Nat} {p1 : Option Nat} {Q : hM → Prop} (hJ : JK (kl k) (kg k)) (hC : CX k 3 cJ3_addFirst RJ3 none 4 112) (hQ : isQ k (PU Q)) (hin : (kt k).name = "addFirst") : ∀  (M : hM), w_J3_addFirst_50 (kg k) F a0 p1 Q  M → GW k 3 M 50 [some (va_rf (some a0)), some (va_rf p1), none] [] := by
  intro  M hw
  exact G_ret (pc := 50) hC hQ dJ3_addFirst_50 hw
theorem m_J3_addFirst {l : Launch} {g : gT} {F : Nat} {a0 : Nat} {p1 : Option Nat} {M : hM} {Q : hM → Prop} (hJ : JK l g) (hw : w_J3_addFirst g F a0 p1 M Q) : MG l g yJ3_addFirst (ws_ yJ3_addFirst cJ3_addFirst 3 none) 4 112 [va_rf (some a0), va_rf p1] M (PU Q) := by
  refine MG_of hJ.2.1 (by decide) (cat_r (cat_r cat_e)) (Nat.le_of_ble_eq_true rfl) (fun k hl hg hin hQ hC => ?_)
  subst hl hg
  show GW k 3 M 0 [some (va_rf (some a0)), some (va_rf p1), none] []
  refine G_aload_n (pc := 0) (i := 1) hC dJ3_addFirst_0 rfl rfl ?_
  refine G_ifnonnull (pc := 1) (tgt := 12) hC dJ3_addFirst_1 (by decide) (fun hc => ?_) (fun hc => ?_)
  · replace hw := hw.1 hc
    refine G_aload_n (pc := 12) (i := 0) hC dJ3_addFirst_12 rfl rfl ?_
    refine G_getF (pc := 13) (ci := 22) (C := RJ3) (T := TJ3) (N := 3) (f := 0) hC rfl in_J3 (Nat.le_of_ble_eq_true rfl) q205 (fun _ h => h) dJ3_addFirst_13 hw (fun x1 hw => ?_)
    refine G_astore_n (pc := 16) (i := 2) (lw := [some (va_rf (some a0)), some (va_rf p1), some (va_rf x1)]) hC dJ3_addFirst_16 rfl (Nat.le_of_ble_eq_true rfl) rfl ?_
    refine G_aload_n (pc := 17) (i := 2) hC dJ3_addFirst_17 rfl rfl ?_
    refine G_aload_n (pc := 18) (i := 0) hC dJ3_addFirst_18 rfl rfl ?_
    refine G_aload_n (pc := 19) (i := 0) hC dJ3_addFirst_19 rfl rfl ?_
    refine G_getI (pc := 20) (ci := 22) (C := RJ3) (T := TJ3) (N := 3) (f := 1) hC rfl in_J3 (Nat.le_of_ble_eq_true rfl) q208 (fun _ h => h) dJ3_addFirst_20 hw (fun x2 hw => ?_)
    refine G_aload_n (pc := 23) (i := 2) hC dJ3_addFirst_23 rfl rfl ?_
    refine G_alenK (pc := 24) hJ hC dJ3_addFirst_24 hw (fun x3 hw => ?_)
    refine G_callS (pc := 25) (n := 2) (As := [.int x2, .int x3]) (rest := [va_rf (some a0), va_rf x1]) hC (m_J3_dec hJ hw) (lw_S q1301 q1302 q89 q1303) hdK_J3_dec.2 (by decide) rfl rfl (st_c (cat_r (cat_r cat_e)) (Nat.le_of_ble_eq_true rfl)) dJ3_addFirst_25 (kI fun x5 M4 hw => ?_)
    refine G_dup_x1 (pc := 28) hC dJ3_addFirst_28 rfl (rf_cat _) ?_
    refine G_put (pc := 29) (ci := 22) (C := RJ3) (T := TJ3) (N := 3) (f := 1) tyJ3 hC rfl in_J3 tyJ3_ok nmJ3 (Nat.le_of_ble_eq_true rfl) q208 (fun _ h => h) rfl rfl rfl dJ3_addFirst_29 hw (fun M6 hw => ?_)
    refine G_aload_n (pc := 32) (i := 1) hC dJ3_addFirst_32 rfl rfl ?_
    refine G_aastO (pc := 33) hJ hC dJ3_addFirst_33 hw (fun M7 hw => ?_)
    refine G_aload_n (pc := 34) (i := 0) hC dJ3_addFirst_34 rfl rfl ?_
    refine G_getI (pc := 35) (ci := 22) (C := RJ3) (T := TJ3) (N := 3) (f := 1) hC rfl in_J3 (Nat.le_of_ble_eq_true rfl) q208 (fun _ h => h) dJ3_addFirst_35 hw (fun x8 hw => ?_)
    refine G_aload_n (pc := 38) (i := 0) hC dJ3_addFirst_38 rfl rfl ?_
    refine G_getI (pc := 39) (ci := 22) (C := RJ3) (T := TJ3) (N := 3) (f := 2) hC rfl in_J3 (Nat.le_of_ble_eq_true rfl) q209 (fun _ h => h) dJ3_addFirst_39 hw (fun x9 hw => ?_)
    refine G_icmp_ne (pc := 42) (tgt := 50) hC dJ3_addFirst_42 (by decide) (fun hc => ?_) (fun hc => ?_)
    · replace hw := hw.1 hc
      refine G_loc (lv' := [some (va_rf (some a0)), some (va_rf p1), none]) ⟨Or.inr rfl, Or.inr rfl, Or.inl rfl, trivial⟩ ?_
      exact g_J3_addFirst_50 hJ hC hQ hin   M7 hw
    · replace hw := hw.2 hc
      refine G_aload_n (pc := 45) (i := 0) hC dJ3_addFirst_45 rfl rfl ?_
      refine G_iconst (pc := 46) (v := 1) hC dJ3_addFirst_46 (by decide) ?_
      obtain ⟨hb, hw⟩ := hw
      refine G_callV (pc := 47) (n := 1) (C := "java/util/ArrayDeque") (b := a0) (As := [.int (1 : Int32)]) (rest := []) hC (m_J3_grow hJ hw) (lw_V q1304 q1306 qs12 q89 q1307) hdK_J3_grow (by decide) (rcv (C := RJ3) (T := TJ3) (N := 3) hC hb rfl) rfl rfl (st_c cat_e (Nat.le_of_ble_eq_true rfl)) dJ3_addFirst_47 (kU fun M10 hw => ?_)
      refine G_loc (lv' := [some (va_rf (some a0)), some (va_rf p1), none]) ⟨Or.inr rfl, Or.inr rfl, Or.inl rfl, trivial⟩ ?_
      exact g_J3_addFirst_50 hJ hC hQ hin   M10 hw
  · replace hw := hw.2 hc
    exact hw.elim
def w_J3_elementAt (g : gT) (F : Nat) (p0 : Option Nat) (p1 : Int32) (M : hM) (Q : Option Nat → hM → Prop) : Prop :=
  aR M p0 p1 fun x1 => Q x1 M
theorem m_J3_elementAt {l : Launch} {g : gT} {F : Nat} {p0 : Option Nat} {p1 : Int32} {M : hM} {Q : Option Nat → hM → Prop} (hJ : JK l g) (hw : w_J3_elementAt g F p0 p1 M Q) : MG l g yJ3_elementAt (ws_ yJ3_elementAt cJ3_elementAt 2 (some (.object "java/lang/Object"))) 1 12 [va_rf p0, .int p1] M (PR Q) := by
  refine MG_of hJ.2.1 (by decide) (cat_r (cat_i cat_e)) (Nat.le_of_ble_eq_true rfl) (fun k hl hg hin hQ hC => ?_)
  subst hl hg
  show GW k 2 M 0 [some (va_rf p0), some (.int p1)] []
  refine G_aload_n (pc := 0) (i := 0) hC dJ3_elementAt_0 rfl rfl ?_
  refine G_iload_n (pc := 1) (i := 1) hC dJ3_elementAt_1 rfl rfl ?_
  refine G_aald (pc := 2) hC dJ3_elementAt_2 hw (fun x1 hw => ?_)
  exact G_aret (pc := 3) hC (Or.inl ⟨_, rfl⟩) hQ dJ3_elementAt_3 hw
theorem hdK_J3_elementAt : yJ3_elementAt.cls = "java/util/ArrayDeque" ∧ yJ3_elementAt.cls ≠ "java/lang/invoke/MethodHandle" ∧ yJ3_elementAt.cls ≠ "java/lang/invoke/VarHandle" ∧ (parseMethodDescriptor yJ3_elementAt.desc).map (fun d => d.parameters.length) = some 2 := by decide +kernel
def w_J3_pollLast_34 (g : gT) (F : Nat) (a0 : Nat) (Q : Option Nat → hM → Prop) (v3 : Option Nat) (M : hM) : Prop :=
  Q v3 M
def w_J3_pollLast (g : gT) (F : Nat) (a0 : Nat) (M : hM) (Q : Option Nat → hM → Prop) : Prop :=
  gF M (some a0) 22 0 fun x1 => gI M (some a0) 22 2 fun x2 => aLenK g M x1 fun x3 => w_J3_dec g F x2 x3 M (fun x5 M4 => w_J3_elementAt g F x1 x5 M4 (fun x7 M6 => ((x7 = none → w_J3_pollLast_34 g F a0 Q x7 M6) ∧ (¬ x7 = none → pV M6 (some a0) 22 2 (.int x5) fun M8 => sR g M8 x1 x5 none fun M9 => w_J3_pollLast_34 g F a0 Q x7 M9))))
theorem g_J3_pollLast_34 {k : kT} {F : Nat} {a0 : Nat} {Q : Option Nat → hM → Prop} (hJ : JK (kl k) (kg k)) (hC : CX k 4 cJ3_pollLast RJ3 (some (.object "java/lang/Object")) 2 33) (hQ : isQ k (PR Q)) (hin : (kt k).name = "pollLast") : ∀ (v3 : Option Nat) (M : hM), w_J3_pollLast_34 (kg k) F a0 Q v3 M → GW k 4 M 34 [some (va_rf (some a0)), none, none, some (va_rf v3)] [] := by
  intro v3 M hw
  refine G_aload_n (pc := 34) (i := 3) hC dJ3_pollLast_34 rfl rfl ?_
  exact G_aret (pc := 35) hC (Or.inl ⟨_, rfl⟩) hQ dJ3_pollLast_35 hw
theorem m_J3_pollLast {l : Launch} {g : gT} {F : Nat} {a0 : Nat} {M : hM} {Q : Option Nat → hM → Prop} (hJ : JK l g) (hw : w_J3_pollLast g F a0 M Q) : MG l g yJ3_pollLast (ws_ yJ3_pollLast cJ3_pollLast 4 (some (.object "java/lang/Object"))) 2 33 [va_rf (some a0)] M (PR Q) := by
  refine MG_of hJ.2.1 (by decide) (cat_r cat_e) (Nat.le_of_ble_eq_true rfl) (fun k hl hg hin hQ hC => ?_)
  subst hl hg
  show GW k 4 M 0 [some (va_rf (some a0)), none, none, none] []
  refine G_aload_n (pc := 0) (i := 0) hC dJ3_pollLast_0 rfl rfl ?_
  refine G_getF (pc := 1) (ci := 22) (C := RJ3) (T := TJ3) (N := 3) (f := 0) hC rfl in_J3 (Nat.le_of_ble_eq_true rfl) q205 (fun _ h => h) dJ3_pollLast_1 hw (fun x1 hw => ?_)
  refine G_dup (pc := 4) hC dJ3_pollLast_4 (rf_cat _) ?_
  refine G_astore_n (pc := 5) (i := 1) (lw := [some (va_rf (some a0)), some (va_rf x1), none, none]) hC dJ3_pollLast_5 rfl (Nat.le_of_ble_eq_true rfl) rfl ?_
  refine G_aload_n (pc := 6) (i := 0) hC dJ3_pollLast_6 rfl rfl ?_
  refine G_getI (pc := 7) (ci := 22) (C := RJ3) (T := TJ3) (N := 3) (f := 2) hC rfl in_J3 (Nat.le_of_ble_eq_true rfl) q209 (fun _ h => h) dJ3_pollLast_7 hw (fun x2 hw => ?_)
  refine G_aload_n (pc := 10) (i := 1) hC dJ3_pollLast_10 rfl rfl ?_
  refine G_alenK (pc := 11) hJ hC dJ3_pollLast_11 hw (fun x3 hw => ?_)
  refine G_callS (pc := 12) (n := 2) (As := [.int x2, .int x3]) (rest := [va_rf x1]) hC (m_J3_dec hJ hw) (lw_S q1301 q1302 q89 q1303) hdK_J3_dec.2 (by decide) rfl rfl (st_c (cat_r cat_e) (Nat.le_of_ble_eq_true rfl)) dJ3_pollLast_12 (kI fun x5 M4 hw => ?_)
  refine G_dup (pc := 15) hC dJ3_pollLast_15 rfl ?_
  refine G_istore_n (pc := 16) (i := 2) (lw := [some (va_rf (some a0)), some (va_rf x1), some (.int x5), none]) hC dJ3_pollLast_16 rfl (Nat.le_of_ble_eq_true rfl) rfl ?_
  refine G_callS (pc := 17) (n := 2) (As := [va_rf x1, .int x5]) (rest := []) hC (m_J3_elementAt hJ hw) (lw_S q1154 q1155 q89 q1156) hdK_J3_elementAt.2 (by decide) rfl rfl (st_c cat_e (Nat.le_of_ble_eq_true rfl)) dJ3_pollLast_17 (kRf fun x7 M6 hw => ?_)
  refine G_astore_n (pc := 20) (i := 3) (lw := [some (va_rf (some a0)), some (va_rf x1), some (.int x5), some (va_rf x7)]) hC dJ3_pollLast_20 rfl (Nat.le_of_ble_eq_true rfl) rfl ?_
  refine G_aload_n (pc := 21) (i := 3) hC dJ3_pollLast_21 rfl rfl ?_
  refine G_ifnull (pc := 22) (tgt := 34) hC dJ3_pollLast_22 (by decide) (fun hc => ?_) (fun hc => ?_)
  · replace hw := hw.1 hc
    refine G_loc (lv' := [some (va_rf (some a0)), none, none, some (va_rf x7)]) ⟨Or.inr rfl, Or.inl rfl, Or.inl rfl, Or.inr rfl, trivial⟩ ?_
    exact g_J3_pollLast_34 hJ hC hQ hin  x7 M6 hw
  · replace hw := hw.2 hc
    refine G_aload_n (pc := 25) (i := 1) hC dJ3_pollLast_25 rfl rfl ?_
    refine G_aload_n (pc := 26) (i := 0) hC dJ3_pollLast_26 rfl rfl ?_
    refine G_iload_n (pc := 27) (i := 2) hC dJ3_pollLast_27 rfl rfl ?_
    refine G_dup_x1 (pc := 28) hC dJ3_pollLast_28 rfl (rf_cat _) ?_
    refine G_put (pc := 29) (ci := 22) (C := RJ3) (T := TJ3) (N := 3) (f := 2) tyJ3 hC rfl in_J3 tyJ3_ok nmJ3 (Nat.le_of_ble_eq_true rfl) q209 (fun _ h => h) rfl rfl rfl dJ3_pollLast_29 hw (fun M8 hw => ?_)
    refine G_null (pc := 32) hC dJ3_pollLast_32 ?_
    refine G_aastO (pc := 33) hJ hC dJ3_pollLast_33 hw (fun M9 hw => ?_)
    refine G_loc (lv' := [some (va_rf (some a0)), none, none, some (va_rf x7)]) ⟨Or.inr rfl, Or.inl rfl, Or.inl rfl, Or.inr rfl, trivial⟩ ?_
    exact g_J3_pollLast_34 hJ hC hQ hin  x7 M9 hw
theorem hdK_J3_pollLast : yJ3_pollLast.cls = "java/util/ArrayDeque" ∧ yJ3_pollLast.cls ≠ "java/lang/invoke/MethodHandle" ∧ yJ3_pollLast.cls ≠ "java/lang/invoke/VarHandle" ∧ (parseMethodDescriptor yJ3_pollLast.desc).map (fun d => d.parameters.length) = some 0 := by decide +kernel
def w_J3_removeLast (g : gT) (F : Nat) (a0 : Nat) (M : hM) (Q : Option Nat → hM → Prop) : Prop :=
  (isC M a0 22 ∧ w_J3_pollLast g F a0  M (fun x2 M1 => ((¬ x2 = none → Q x2 M1) ∧ (x2 = none → False))))
theorem m_J3_removeLast {l : Launch} {g : gT} {F : Nat} {a0 : Nat} {M : hM} {Q : Option Nat → hM → Prop} (hJ : JK l g) (hw : w_J3_removeLast g F a0 M Q) : MG l g yJ3_removeLast (ws_ yJ3_removeLast cJ3_removeLast 2 (some (.object "java/lang/Object"))) 3 56 [va_rf (some a0)] M (PR Q) := by
  refine MG_of hJ.2.1 (by decide) (cat_r cat_e) (Nat.le_of_ble_eq_true rfl) (fun k hl hg hin hQ hC => ?_)
  subst hl hg
  show GW k 2 M 0 [some (va_rf (some a0)), none] []
  refine G_aload_n (pc := 0) (i := 0) hC dJ3_removeLast_0 rfl rfl ?_
  obtain ⟨hb, hw⟩ := hw
  refine G_callV (pc := 1) (n := 0) (C := "java/util/ArrayDeque") (b := a0) (As := []) (rest := []) hC (m_J3_pollLast hJ hw) (lw_V q1337 q1338 q1339 q89 q1340) hdK_J3_pollLast (by decide) (rcv (C := RJ3) (T := TJ3) (N := 3) hC hb rfl) rfl rfl (st_c cat_e (Nat.le_of_ble_eq_true rfl)) dJ3_removeLast_1 (kRf fun x2 M1 hw => ?_)
  refine G_astore_n (pc := 4) (i := 1) (lw := [some (va_rf (some a0)), some (va_rf x2)]) hC dJ3_removeLast_4 rfl (Nat.le_of_ble_eq_true rfl) rfl ?_
  refine G_aload_n (pc := 5) (i := 1) hC dJ3_removeLast_5 rfl rfl ?_
  refine G_ifnonnull (pc := 6) (tgt := 17) hC dJ3_removeLast_6 (by decide) (fun hc => ?_) (fun hc => ?_)
  · replace hw := hw.1 hc
    refine G_aload_n (pc := 17) (i := 1) hC dJ3_removeLast_17 rfl rfl ?_
    exact G_aret (pc := 18) hC (Or.inl ⟨_, rfl⟩) hQ dJ3_removeLast_18 hw
  · replace hw := hw.2 hc
    exact hw.elim
def w_J3_inc_10 (g : gT) (F : Nat) (p1 : Int32) (Q : Int32 → hM → Prop) (v0 : Int32) (M : hM) : Prop :=
  Q v0 M
def w_J3_inc (g : gT) (F : Nat) (p0 : Int32) (p1 : Int32) (M : hM) (Q : Int32 → hM → Prop) : Prop :=
  (((p0 + (1 : Int32)) < p1 → w_J3_inc_10 g F p1 Q (p0 + (1 : Int32)) M) ∧ (¬ ((p0 + (1 : Int32)) < p1) → w_J3_inc_10 g F p1 Q (0 : Int32) M))
theorem g_J3_inc_10 {k : kT} {F : Nat} {p1 : Int32} {Q : Int32 → hM → Prop} (hJ : JK (kl k) (kg k)) (hC : CX k 2 cJ3_inc RJ3 (some .int) 1 12) (hQ : isQ k (PI Q)) (hin : (kt k).name = "inc") : ∀ (v0 : Int32) (M : hM), w_J3_inc_10 (kg k) F p1 Q v0 M → GW k 2 M 10 [some (.int v0), some (.int p1)] [] := by
  intro v0 M hw
  refine G_iload_n (pc := 10) (i := 0) hC dJ3_inc_10 rfl rfl ?_
  exact G_iret (pc := 11) hC rfl hQ dJ3_inc_11 hw
theorem m_J3_inc {l : Launch} {g : gT} {F : Nat} {p0 : Int32} {p1 : Int32} {M : hM} {Q : Int32 → hM → Prop} (hJ : JK l g) (hw : w_J3_inc g F p0 p1 M Q) : MG l g yJ3_inc (ws_ yJ3_inc cJ3_inc 2 (some .int)) 1 12 [.int p0, .int p1] M (PI Q) := by
  refine MG_of hJ.2.1 (by decide) (cat_i (cat_i cat_e)) (Nat.le_of_ble_eq_true rfl) (fun k hl hg hin hQ hC => ?_)
  subst hl hg
  show GW k 2 M 0 [some (.int p0), some (.int p1)] []
  refine G_iinc (pc := 0) (i := 0) (v := (p0 + (1 : Int32))) (lw := [some (.int (p0 + (1 : Int32))), some (.int p1)]) hC dJ3_inc_0 rfl (Nat.le_of_ble_eq_true rfl) rfl rfl ?_
  refine G_iload_n (pc := 3) (i := 0) hC dJ3_inc_3 rfl rfl ?_
  refine G_iload_n (pc := 4) (i := 1) hC dJ3_inc_4 rfl rfl ?_
  refine G_icmp_lt (pc := 5) (tgt := 10) hC dJ3_inc_5 (by decide) (fun hc => ?_) (fun hc => ?_)
  · replace hw := hw.1 hc
    exact g_J3_inc_10 hJ hC hQ hin  (p0 + (1 : Int32)) M hw
  · replace hw := hw.2 hc
    refine G_iconst (pc := 8) (v := 0) hC dJ3_inc_8 (by decide) ?_
    refine G_istore_n (pc := 9) (i := 0) (lw := [some (.int (0 : Int32)), some (.int p1)]) hC dJ3_inc_9 rfl (Nat.le_of_ble_eq_true rfl) rfl ?_
    exact g_J3_inc_10 hJ hC hQ hin  (0 : Int32) M hw
theorem hdK_J3_inc : yJ3_inc.cls = "java/util/ArrayDeque" ∧ yJ3_inc.cls ≠ "java/lang/invoke/MethodHandle" ∧ yJ3_inc.cls ≠ "java/lang/invoke/VarHandle" ∧ (parseMethodDescriptor yJ3_inc.desc).map (fun d => d.parameters.length) = some 2 := by decide +kernel
def w_J3_pollFirst_34 (g : gT) (F : Nat) (a0 : Nat) (Q : Option Nat → hM → Prop) (v3 : Option Nat) (M : hM) : Prop :=
  Q v3 M
def w_J3_pollFirst (g : gT) (F : Nat) (a0 : Nat) (M : hM) (Q : Option Nat → hM → Prop) : Prop :=
  gF M (some a0) 22 0 fun x1 => gI M (some a0) 22 1 fun x2 => w_J3_elementAt g F x1 x2 M (fun x4 M3 => ((x4 = none → w_J3_pollFirst_34 g F a0 Q x4 M3) ∧ (¬ x4 = none → sR g M3 x1 x2 none fun M5 => aLenK g M5 x1 fun x6 => w_J3_inc g F x2 x6 M5 (fun x8 M7 => pV M7 (some a0) 22 1 (.int x8) fun M9 => w_J3_pollFirst_34 g F a0 Q x4 M9))))
theorem g_J3_pollFirst_34 {k : kT} {F : Nat} {a0 : Nat} {Q : Option Nat → hM → Prop} (hJ : JK (kl k) (kg k)) (hC : CX k 4 cJ3_pollFirst RJ3 (some (.object "java/lang/Object")) 2 33) (hQ : isQ k (PR Q)) (hin : (kt k).name = "pollFirst") : ∀ (v3 : Option Nat) (M : hM), w_J3_pollFirst_34 (kg k) F a0 Q v3 M → GW k 4 M 34 [some (va_rf (some a0)), none, none, some (va_rf v3)] [] := by
  intro v3 M hw
  refine G_aload_n (pc := 34) (i := 3) hC dJ3_pollFirst_34 rfl rfl ?_
  exact G_aret (pc := 35) hC (Or.inl ⟨_, rfl⟩) hQ dJ3_pollFirst_35 hw
theorem m_J3_pollFirst {l : Launch} {g : gT} {F : Nat} {a0 : Nat} {M : hM} {Q : Option Nat → hM → Prop} (hJ : JK l g) (hw : w_J3_pollFirst g F a0 M Q) : MG l g yJ3_pollFirst (ws_ yJ3_pollFirst cJ3_pollFirst 4 (some (.object "java/lang/Object"))) 2 33 [va_rf (some a0)] M (PR Q) := by
  refine MG_of hJ.2.1 (by decide) (cat_r cat_e) (Nat.le_of_ble_eq_true rfl) (fun k hl hg hin hQ hC => ?_)
  subst hl hg
  show GW k 4 M 0 [some (va_rf (some a0)), none, none, none] []
  refine G_aload_n (pc := 0) (i := 0) hC dJ3_pollFirst_0 rfl rfl ?_
  refine G_getF (pc := 1) (ci := 22) (C := RJ3) (T := TJ3) (N := 3) (f := 0) hC rfl in_J3 (Nat.le_of_ble_eq_true rfl) q205 (fun _ h => h) dJ3_pollFirst_1 hw (fun x1 hw => ?_)
  refine G_dup (pc := 4) hC dJ3_pollFirst_4 (rf_cat _) ?_
  refine G_astore_n (pc := 5) (i := 1) (lw := [some (va_rf (some a0)), some (va_rf x1), none, none]) hC dJ3_pollFirst_5 rfl (Nat.le_of_ble_eq_true rfl) rfl ?_
  refine G_aload_n (pc := 6) (i := 0) hC dJ3_pollFirst_6 rfl rfl ?_
  refine G_getI (pc := 7) (ci := 22) (C := RJ3) (T := TJ3) (N := 3) (f := 1) hC rfl in_J3 (Nat.le_of_ble_eq_true rfl) q208 (fun _ h => h) dJ3_pollFirst_7 hw (fun x2 hw => ?_)
  refine G_dup (pc := 10) hC dJ3_pollFirst_10 rfl ?_
  refine G_istore_n (pc := 11) (i := 2) (lw := [some (va_rf (some a0)), some (va_rf x1), some (.int x2), none]) hC dJ3_pollFirst_11 rfl (Nat.le_of_ble_eq_true rfl) rfl ?_
  refine G_callS (pc := 12) (n := 2) (As := [va_rf x1, .int x2]) (rest := []) hC (m_J3_elementAt hJ hw) (lw_S q1154 q1155 q89 q1156) hdK_J3_elementAt.2 (by decide) rfl rfl (st_c cat_e (Nat.le_of_ble_eq_true rfl)) dJ3_pollFirst_12 (kRf fun x4 M3 hw => ?_)
  refine G_astore_n (pc := 15) (i := 3) (lw := [some (va_rf (some a0)), some (va_rf x1), some (.int x2), some (va_rf x4)]) hC dJ3_pollFirst_15 rfl (Nat.le_of_ble_eq_true rfl) rfl ?_
  refine G_aload_n (pc := 16) (i := 3) hC dJ3_pollFirst_16 rfl rfl ?_
  refine G_ifnull (pc := 17) (tgt := 34) hC dJ3_pollFirst_17 (by decide) (fun hc => ?_) (fun hc => ?_)
  · replace hw := hw.1 hc
    refine G_loc (lv' := [some (va_rf (some a0)), none, none, some (va_rf x4)]) ⟨Or.inr rfl, Or.inl rfl, Or.inl rfl, Or.inr rfl, trivial⟩ ?_
    exact g_J3_pollFirst_34 hJ hC hQ hin  x4 M3 hw
  · replace hw := hw.2 hc
    refine G_aload_n (pc := 20) (i := 1) hC dJ3_pollFirst_20 rfl rfl ?_
    refine G_iload_n (pc := 21) (i := 2) hC dJ3_pollFirst_21 rfl rfl ?_
    refine G_null (pc := 22) hC dJ3_pollFirst_22 ?_
    refine G_aastO (pc := 23) hJ hC dJ3_pollFirst_23 hw (fun M5 hw => ?_)
    refine G_aload_n (pc := 24) (i := 0) hC dJ3_pollFirst_24 rfl rfl ?_
    refine G_iload_n (pc := 25) (i := 2) hC dJ3_pollFirst_25 rfl rfl ?_
    refine G_aload_n (pc := 26) (i := 1) hC dJ3_pollFirst_26 rfl rfl ?_
    refine G_alenK (pc := 27) hJ hC dJ3_pollFirst_27 hw (fun x6 hw => ?_)
    refine G_callS (pc := 28) (n := 2) (As := [.int x2, .int x6]) (rest := [va_rf (some a0)]) hC (m_J3_inc hJ hw) (lw_S q1157 q1117 q89 q1118) hdK_J3_inc.2 (by decide) rfl rfl (st_c (cat_r cat_e) (Nat.le_of_ble_eq_true rfl)) dJ3_pollFirst_28 (kI fun x8 M7 hw => ?_)
    refine G_put (pc := 31) (ci := 22) (C := RJ3) (T := TJ3) (N := 3) (f := 1) tyJ3 hC rfl in_J3 tyJ3_ok nmJ3 (Nat.le_of_ble_eq_true rfl) q208 (fun _ h => h) rfl rfl rfl dJ3_pollFirst_31 hw (fun M9 hw => ?_)
    refine G_loc (lv' := [some (va_rf (some a0)), none, none, some (va_rf x4)]) ⟨Or.inr rfl, Or.inl rfl, Or.inl rfl, Or.inr rfl, trivial⟩ ?_
    exact g_J3_pollFirst_34 hJ hC hQ hin  x4 M9 hw
theorem hdK_J3_pollFirst : yJ3_pollFirst.cls = "java/util/ArrayDeque" ∧ yJ3_pollFirst.cls ≠ "java/lang/invoke/MethodHandle" ∧ yJ3_pollFirst.cls ≠ "java/lang/invoke/VarHandle" ∧ (parseMethodDescriptor yJ3_pollFirst.desc).map (fun d => d.parameters.length) = some 0 := by decide +kernel
def w_J3_removeFirst (g : gT) (F : Nat) (a0 : Nat) (M : hM) (Q : Option Nat → hM → Prop) : Prop :=
  (isC M a0 22 ∧ w_J3_pollFirst g F a0  M (fun x2 M1 => ((¬ x2 = none → Q x2 M1) ∧ (x2 = none → False))))
theorem m_J3_removeFirst {l : Launch} {g : gT} {F : Nat} {a0 : Nat} {M : hM} {Q : Option Nat → hM → Prop} (hJ : JK l g) (hw : w_J3_removeFirst g F a0 M Q) : MG l g yJ3_removeFirst (ws_ yJ3_removeFirst cJ3_removeFirst 2 (some (.object "java/lang/Object"))) 3 56 [va_rf (some a0)] M (PR Q) := by
  refine MG_of hJ.2.1 (by decide) (cat_r cat_e) (Nat.le_of_ble_eq_true rfl) (fun k hl hg hin hQ hC => ?_)
  subst hl hg
  show GW k 2 M 0 [some (va_rf (some a0)), none] []
  refine G_aload_n (pc := 0) (i := 0) hC dJ3_removeFirst_0 rfl rfl ?_
  obtain ⟨hb, hw⟩ := hw
  refine G_callV (pc := 1) (n := 0) (C := "java/util/ArrayDeque") (b := a0) (As := []) (rest := []) hC (m_J3_pollFirst hJ hw) (lw_V q1150 q1151 q1152 q89 q1153) hdK_J3_pollFirst (by decide) (rcv (C := RJ3) (T := TJ3) (N := 3) hC hb rfl) rfl rfl (st_c cat_e (Nat.le_of_ble_eq_true rfl)) dJ3_removeFirst_1 (kRf fun x2 M1 hw => ?_)
  refine G_astore_n (pc := 4) (i := 1) (lw := [some (va_rf (some a0)), some (va_rf x2)]) hC dJ3_removeFirst_4 rfl (Nat.le_of_ble_eq_true rfl) rfl ?_
  refine G_aload_n (pc := 5) (i := 1) hC dJ3_removeFirst_5 rfl rfl ?_
  refine G_ifnonnull (pc := 6) (tgt := 17) hC dJ3_removeFirst_6 (by decide) (fun hc => ?_) (fun hc => ?_)
  · replace hw := hw.1 hc
    refine G_aload_n (pc := 17) (i := 1) hC dJ3_removeFirst_17 rfl rfl ?_
    exact G_aret (pc := 18) hC (Or.inl ⟨_, rfl⟩) hQ dJ3_removeFirst_18 hw
  · replace hw := hw.2 hc
    exact hw.elim
def w_J3_sub_12 (g : gT) (F : Nat) (p1 : Int32) (p2 : Int32) (Q : Int32 → hM → Prop) (v0 : Int32) (M : hM) : Prop :=
  Q v0 M
def w_J3_sub (g : gT) (F : Nat) (p0 : Int32) (p1 : Int32) (p2 : Int32) (M : hM) (Q : Int32 → hM → Prop) : Prop :=
  ((0 ≤ (p0 - p1) → w_J3_sub_12 g F p1 p2 Q (p0 - p1) M) ∧ (¬ (0 ≤ (p0 - p1)) → w_J3_sub_12 g F p1 p2 Q ((p0 - p1) + p2) M))
theorem g_J3_sub_12 {k : kT} {F : Nat} {p1 : Int32} {p2 : Int32} {Q : Int32 → hM → Prop} (hJ : JK (kl k) (kg k)) (hC : CX k 3 cJ3_sub RJ3 (some .int) 1 12) (hQ : isQ k (PI Q)) (hin : (kt k).name = "sub") : ∀ (v0 : Int32) (M : hM), w_J3_sub_12 (kg k) F p1 p2 Q v0 M → GW k 3 M 12 [some (.int v0), some (.int p1), some (.int p2)] [] := by
  intro v0 M hw
  refine G_iload_n (pc := 12) (i := 0) hC dJ3_sub_12 rfl rfl ?_
  exact G_iret (pc := 13) hC rfl hQ dJ3_sub_13 hw
theorem m_J3_sub {l : Launch} {g : gT} {F : Nat} {p0 : Int32} {p1 : Int32} {p2 : Int32} {M : hM} {Q : Int32 → hM → Prop} (hJ : JK l g) (hw : w_J3_sub g F p0 p1 p2 M Q) : MG l g yJ3_sub (ws_ yJ3_sub cJ3_sub 3 (some .int)) 1 12 [.int p0, .int p1, .int p2] M (PI Q) := by
  refine MG_of hJ.2.1 (by decide) (cat_i (cat_i (cat_i cat_e))) (Nat.le_of_ble_eq_true rfl) (fun k hl hg hin hQ hC => ?_)
  subst hl hg
  show GW k 3 M 0 [some (.int p0), some (.int p1), some (.int p2)] []
  refine G_iload_n (pc := 0) (i := 0) hC dJ3_sub_0 rfl rfl ?_
  refine G_iload_n (pc := 1) (i := 1) hC dJ3_sub_1 rfl rfl ?_
  refine G_isub (pc := 2) hC dJ3_sub_2 ?_
  refine G_dup (pc := 3) hC dJ3_sub_3 rfl ?_
  refine G_istore_n (pc := 4) (i := 0) (lw := [some (.int (p0 - p1)), some (.int p1), some (.int p2)]) hC dJ3_sub_4 rfl (Nat.le_of_ble_eq_true rfl) rfl ?_
  refine G_if_ge (pc := 5) (tgt := 12) hC dJ3_sub_5 (by decide) (fun hc => ?_) (fun hc => ?_)
  · replace hw := hw.1 hc
    exact g_J3_sub_12 hJ hC hQ hin  (p0 - p1) M hw
  · replace hw := hw.2 hc
    refine G_iload_n (pc := 8) (i := 0) hC dJ3_sub_8 rfl rfl ?_
    refine G_iload_n (pc := 9) (i := 2) hC dJ3_sub_9 rfl rfl ?_
    refine G_iadd (pc := 10) hC dJ3_sub_10 ?_
    refine G_istore_n (pc := 11) (i := 0) (lw := [some (.int ((p0 - p1) + p2)), some (.int p1), some (.int p2)]) hC dJ3_sub_11 rfl (Nat.le_of_ble_eq_true rfl) rfl ?_
    exact g_J3_sub_12 hJ hC hQ hin  ((p0 - p1) + p2) M hw
theorem hdK_J3_sub : yJ3_sub.cls = "java/util/ArrayDeque" ∧ yJ3_sub.cls ≠ "java/lang/invoke/MethodHandle" ∧ yJ3_sub.cls ≠ "java/lang/invoke/VarHandle" ∧ (parseMethodDescriptor yJ3_sub.desc).map (fun d => d.parameters.length) = some 3 := by decide +kernel
def w_J3_size (g : gT) (F : Nat) (a0 : Nat) (M : hM) (Q : Int32 → hM → Prop) : Prop :=
  gI M (some a0) 22 2 fun x1 => gI M (some a0) 22 1 fun x2 => gF M (some a0) 22 0 fun x3 => aLenK g M x3 fun x4 => w_J3_sub g F x1 x2 x4 M (fun x6 M5 => Q x6 M5)
theorem m_J3_size {l : Launch} {g : gT} {F : Nat} {a0 : Nat} {M : hM} {Q : Int32 → hM → Prop} (hJ : JK l g) (hw : w_J3_size g F a0 M Q) : MG l g yJ3_size (ws_ yJ3_size cJ3_size 1 (some .int)) 2 34 [va_rf (some a0)] M (PI Q) := by
  refine MG_of hJ.2.1 (by decide) (cat_r cat_e) (Nat.le_of_ble_eq_true rfl) (fun k hl hg hin hQ hC => ?_)
  subst hl hg
  show GW k 1 M 0 [some (va_rf (some a0))] []
  refine G_aload_n (pc := 0) (i := 0) hC dJ3_size_0 rfl rfl ?_
  refine G_getI (pc := 1) (ci := 22) (C := RJ3) (T := TJ3) (N := 3) (f := 2) hC rfl in_J3 (Nat.le_of_ble_eq_true rfl) q209 (fun _ h => h) dJ3_size_1 hw (fun x1 hw => ?_)
  refine G_aload_n (pc := 4) (i := 0) hC dJ3_size_4 rfl rfl ?_
  refine G_getI (pc := 5) (ci := 22) (C := RJ3) (T := TJ3) (N := 3) (f := 1) hC rfl in_J3 (Nat.le_of_ble_eq_true rfl) q208 (fun _ h => h) dJ3_size_5 hw (fun x2 hw => ?_)
  refine G_aload_n (pc := 8) (i := 0) hC dJ3_size_8 rfl rfl ?_
  refine G_getF (pc := 9) (ci := 22) (C := RJ3) (T := TJ3) (N := 3) (f := 0) hC rfl in_J3 (Nat.le_of_ble_eq_true rfl) q205 (fun _ h => h) dJ3_size_9 hw (fun x3 hw => ?_)
  refine G_alenK (pc := 12) hJ hC dJ3_size_12 hw (fun x4 hw => ?_)
  refine G_callS (pc := 13) (n := 3) (As := [.int x1, .int x2, .int x4]) (rest := []) hC (m_J3_sub hJ hw) (lw_S q770 q771 q89 q772) hdK_J3_sub.2 (by decide) rfl rfl (st_c cat_e (Nat.le_of_ble_eq_true rfl)) dJ3_size_13 (kI fun x6 M5 hw => ?_)
  exact G_iret (pc := 16) hC rfl hQ dJ3_size_16 hw
def w_J3_isEmpty_16 (g : gT) (F : Nat) (a0 : Nat) (Q : Int32 → hM → Prop) (s0 : Int32) (M : hM) : Prop :=
  ((s0 = 0 ∨ s0 = 1) ∧ Q s0 M)
def w_J3_isEmpty (g : gT) (F : Nat) (a0 : Nat) (M : hM) (Q : Int32 → hM → Prop) : Prop :=
  gI M (some a0) 22 1 fun x1 => gI M (some a0) 22 2 fun x2 => ((¬ x1 = x2 → w_J3_isEmpty_16 g F a0 Q (0 : Int32) M) ∧ (x1 = x2 → w_J3_isEmpty_16 g F a0 Q (1 : Int32) M))
theorem g_J3_isEmpty_16 {k : kT} {F : Nat} {a0 : Nat} {Q : Int32 → hM → Prop} (hJ : JK (kl k) (kg k)) (hC : CX k 1 cJ3_isEmpty RJ3 (some .boolean) 1 12) (hQ : isQ k (PI Q)) (hin : (kt k).name = "isEmpty") : ∀ (s0 : Int32) (M : hM), w_J3_isEmpty_16 (kg k) F a0 Q s0 M → GW k 1 M 16 [some (va_rf (some a0))] [.int s0] := by
  intro s0 M hw
  obtain ⟨hz, hw⟩ := hw
  exact G_iret (pc := 16) hC (nz_n hz) hQ dJ3_isEmpty_16 hw
theorem m_J3_isEmpty {l : Launch} {g : gT} {F : Nat} {a0 : Nat} {M : hM} {Q : Int32 → hM → Prop} (hJ : JK l g) (hw : w_J3_isEmpty g F a0 M Q) : MG l g yJ3_isEmpty (ws_ yJ3_isEmpty cJ3_isEmpty 1 (some .boolean)) 1 12 [va_rf (some a0)] M (PI Q) := by
  refine MG_of hJ.2.1 (by decide) (cat_r cat_e) (Nat.le_of_ble_eq_true rfl) (fun k hl hg hin hQ hC => ?_)
  subst hl hg
  show GW k 1 M 0 [some (va_rf (some a0))] []
  refine G_aload_n (pc := 0) (i := 0) hC dJ3_isEmpty_0 rfl rfl ?_
  refine G_getI (pc := 1) (ci := 22) (C := RJ3) (T := TJ3) (N := 3) (f := 1) hC rfl in_J3 (Nat.le_of_ble_eq_true rfl) q208 (fun _ h => h) dJ3_isEmpty_1 hw (fun x1 hw => ?_)
  refine G_aload_n (pc := 4) (i := 0) hC dJ3_isEmpty_4 rfl rfl ?_
  refine G_getI (pc := 5) (ci := 22) (C := RJ3) (T := TJ3) (N := 3) (f := 2) hC rfl in_J3 (Nat.le_of_ble_eq_true rfl) q209 (fun _ h => h) dJ3_isEmpty_5 hw (fun x2 hw => ?_)
  refine G_icmp_ne (pc := 8) (tgt := 15) hC dJ3_isEmpty_8 (by decide) (fun hc => ?_) (fun hc => ?_)
  · replace hw := hw.1 hc
    refine G_iconst (pc := 15) (v := 0) hC dJ3_isEmpty_15 (by decide) ?_
    exact g_J3_isEmpty_16 hJ hC hQ hin  (0 : Int32) M hw
  · replace hw := hw.2 hc
    refine G_iconst (pc := 11) (v := 1) hC dJ3_isEmpty_11 (by decide) ?_
    refine G_goto (pc := 12) (tgt := 16) hC dJ3_isEmpty_12 (by decide) ?_
    exact g_J3_isEmpty_16 hJ hC hQ hin  (1 : Int32) M hw
def w_J3_circularClear_12 (g : gT) (F : Nat) (p0 : Option Nat) (p2 : Int32) (Q : hM → Prop) : Nat → Int32 → Int32 → hM → Prop
  | 0, _, _, _ => False
  | n + 1, v1, v3, M => ((v3 ≤ v1 → ((¬ v3 = p2 → w_J3_circularClear_12 g F p0 p2 Q n (0 : Int32) p2 M) ∧ (v3 = p2 → Q M))) ∧ (¬ (v3 ≤ v1) → sR g M p0 v1 none fun M1 => w_J3_circularClear_12 g F p0 p2 Q n (v1 + (1 : Int32)) v3 M1))
def w_J3_circularClear_11 (g : gT) (F : Nat) (p0 : Option Nat) (p2 : Int32) (Q : hM → Prop) (v1 : Int32) (s0 : Int32) (M : hM) : Prop :=
  w_J3_circularClear_12 g F p0 p2 Q F v1 s0 M
def w_J3_circularClear (g : gT) (F : Nat) (p0 : Option Nat) (p1 : Int32) (p2 : Int32) (M : hM) (Q : hM → Prop) : Prop :=
  ((p2 < p1 → aLenK g M p0 fun x1 => w_J3_circularClear_11 g F p0 p2 Q p1 x1 M) ∧ (¬ (p2 < p1) → w_J3_circularClear_11 g F p0 p2 Q p1 p2 M))
theorem g_J3_circularClear_12 {k : kT} {F : Nat} {p0 : Option Nat} {p2 : Int32} {Q : hM → Prop} (hJ : JK (kl k) (kg k)) (hC : CX k 4 cJ3_circularClear RJ3 none 1 12) (hQ : isQ k (PU Q)) (hin : (kt k).name = "circularClear") : ∀ (n : Nat) (v1 : Int32) (v3 : Int32) (M : hM), w_J3_circularClear_12 (kg k) F p0 p2 Q n v1 v3 M → GW k 4 M 12 [some (va_rf p0), some (.int v1), some (.int p2), some (.int v3)] [] := by
  intro n
  induction n with
  | zero =>
    intro v1 v3 M hw
    exact hw.elim
  | succ n ih =>
    intro v1 v3 M hw
    refine G_iload_n (pc := 12) (i := 1) hC dJ3_circularClear_12 rfl rfl ?_
    refine G_iload_n (pc := 13) (i := 3) hC dJ3_circularClear_13 rfl rfl ?_
    refine G_icmp_ge (pc := 14) (tgt := 27) hC dJ3_circularClear_14 (by decide) (fun hc => ?_) (fun hc => ?_)
    · replace hw := hw.1 hc
      refine G_iload_n (pc := 27) (i := 3) hC dJ3_circularClear_27 rfl rfl ?_
      refine G_iload_n (pc := 28) (i := 2) hC dJ3_circularClear_28 rfl rfl ?_
      refine G_icmp_ne (pc := 29) (tgt := 35) hC dJ3_circularClear_29 (by decide) (fun hc => ?_) (fun hc => ?_)
      · replace hw := hw.1 hc
        refine G_iconst (pc := 35) (v := 0) hC dJ3_circularClear_35 (by decide) ?_
        refine G_istore_n (pc := 36) (i := 1) (lw := [some (va_rf p0), some (.int (0 : Int32)), some (.int p2), some (.int v3)]) hC dJ3_circularClear_36 rfl (Nat.le_of_ble_eq_true rfl) rfl ?_
        refine G_iload_n (pc := 37) (i := 2) hC dJ3_circularClear_37 rfl rfl ?_
        refine G_istore_n (pc := 38) (i := 3) (lw := [some (va_rf p0), some (.int (0 : Int32)), some (.int p2), some (.int p2)]) hC dJ3_circularClear_38 rfl (Nat.le_of_ble_eq_true rfl) rfl ?_
        refine G_goto (pc := 39) (tgt := 12) hC dJ3_circularClear_39 (by decide) ?_
        exact ih (0 : Int32) p2 M hw
      · replace hw := hw.2 hc
        refine G_goto (pc := 32) (tgt := 42) hC dJ3_circularClear_32 (by decide) ?_
        exact G_ret (pc := 42) hC hQ dJ3_circularClear_42 hw
    · replace hw := hw.2 hc
      refine G_aload_n (pc := 17) (i := 0) hC dJ3_circularClear_17 rfl rfl ?_
      refine G_iload_n (pc := 18) (i := 1) hC dJ3_circularClear_18 rfl rfl ?_
      refine G_null (pc := 19) hC dJ3_circularClear_19 ?_
      refine G_aastO (pc := 20) hJ hC dJ3_circularClear_20 hw (fun M1 hw => ?_)
      refine G_iinc (pc := 21) (i := 1) (v := (v1 + (1 : Int32))) (lw := [some (va_rf p0), some (.int (v1 + (1 : Int32))), some (.int p2), some (.int v3)]) hC dJ3_circularClear_21 rfl (Nat.le_of_ble_eq_true rfl) rfl rfl ?_
      refine G_goto (pc := 24) (tgt := 12) hC dJ3_circularClear_24 (by decide) ?_
      exact ih (v1 + (1 : Int32)) v3 M1 hw
theorem g_J3_circularClear_11 {k : kT} {F : Nat} {p0 : Option Nat} {p2 : Int32} {Q : hM → Prop} (hJ : JK (kl k) (kg k)) (hC : CX k 4 cJ3_circularClear RJ3 none 1 12) (hQ : isQ k (PU Q)) (hin : (kt k).name = "circularClear") : ∀ (v1 : Int32) (s0 : Int32) (M : hM), w_J3_circularClear_11 (kg k) F p0 p2 Q v1 s0 M → GW k 4 M 11 [some (va_rf p0), some (.int v1), some (.int p2), none] [.int s0] := by
  intro v1 s0 M hw
  refine G_istore_n (pc := 11) (i := 3) (lw := [some (va_rf p0), some (.int v1), some (.int p2), some (.int s0)]) hC dJ3_circularClear_11 rfl (Nat.le_of_ble_eq_true rfl) rfl ?_
  exact g_J3_circularClear_12 hJ hC hQ hin _ v1 s0 M hw
theorem m_J3_circularClear {l : Launch} {g : gT} {F : Nat} {p0 : Option Nat} {p1 : Int32} {p2 : Int32} {M : hM} {Q : hM → Prop} (hJ : JK l g) (hw : w_J3_circularClear g F p0 p1 p2 M Q) : MG l g yJ3_circularClear (ws_ yJ3_circularClear cJ3_circularClear 4 none) 1 12 [va_rf p0, .int p1, .int p2] M (PU Q) := by
  refine MG_of hJ.2.1 (by decide) (cat_r (cat_i (cat_i cat_e))) (Nat.le_of_ble_eq_true rfl) (fun k hl hg hin hQ hC => ?_)
  subst hl hg
  show GW k 4 M 0 [some (va_rf p0), some (.int p1), some (.int p2), none] []
  refine G_iload_n (pc := 0) (i := 1) hC dJ3_circularClear_0 rfl rfl ?_
  refine G_iload_n (pc := 1) (i := 2) hC dJ3_circularClear_1 rfl rfl ?_
  refine G_icmp_gt (pc := 2) (tgt := 9) hC dJ3_circularClear_2 (by decide) (fun hc => ?_) (fun hc => ?_)
  · replace hw := hw.1 hc
    refine G_aload_n (pc := 9) (i := 0) hC dJ3_circularClear_9 rfl rfl ?_
    refine G_alenK (pc := 10) hJ hC dJ3_circularClear_10 hw (fun x1 hw => ?_)
    exact g_J3_circularClear_11 hJ hC hQ hin  p1 x1 M hw
  · replace hw := hw.2 hc
    refine G_iload_n (pc := 5) (i := 2) hC dJ3_circularClear_5 rfl rfl ?_
    refine G_goto (pc := 6) (tgt := 11) hC dJ3_circularClear_6 (by decide) ?_
    exact g_J3_circularClear_11 hJ hC hQ hin  p1 p2 M hw
theorem hdK_J3_circularClear : yJ3_circularClear.cls = "java/util/ArrayDeque" ∧ yJ3_circularClear.cls ≠ "java/lang/invoke/MethodHandle" ∧ yJ3_circularClear.cls ≠ "java/lang/invoke/VarHandle" ∧ (parseMethodDescriptor yJ3_circularClear.desc).map (fun d => d.parameters.length) = some 3 := by decide +kernel
def w_J3_clear (g : gT) (F : Nat) (a0 : Nat) (M : hM) (Q : hM → Prop) : Prop :=
  gF M (some a0) 22 0 fun x1 => gI M (some a0) 22 1 fun x2 => gI M (some a0) 22 2 fun x3 => w_J3_circularClear g F x1 x2 x3 M (fun M4 => pV M4 (some a0) 22 2 (.int (0 : Int32)) fun M5 => pV M5 (some a0) 22 1 (.int (0 : Int32)) fun M6 => Q M6)
theorem m_J3_clear {l : Launch} {g : gT} {F : Nat} {a0 : Nat} {M : hM} {Q : hM → Prop} (hJ : JK l g) (hw : w_J3_clear g F a0 M Q) : MG l g yJ3_clear (ws_ yJ3_clear cJ3_clear 1 none) 2 35 [va_rf (some a0)] M (PU Q) := by
  refine MG_of hJ.2.1 (by decide) (cat_r cat_e) (Nat.le_of_ble_eq_true rfl) (fun k hl hg hin hQ hC => ?_)
  subst hl hg
  show GW k 1 M 0 [some (va_rf (some a0))] []
  refine G_aload_n (pc := 0) (i := 0) hC dJ3_clear_0 rfl rfl ?_
  refine G_getF (pc := 1) (ci := 22) (C := RJ3) (T := TJ3) (N := 3) (f := 0) hC rfl in_J3 (Nat.le_of_ble_eq_true rfl) q205 (fun _ h => h) dJ3_clear_1 hw (fun x1 hw => ?_)
  refine G_aload_n (pc := 4) (i := 0) hC dJ3_clear_4 rfl rfl ?_
  refine G_getI (pc := 5) (ci := 22) (C := RJ3) (T := TJ3) (N := 3) (f := 1) hC rfl in_J3 (Nat.le_of_ble_eq_true rfl) q208 (fun _ h => h) dJ3_clear_5 hw (fun x2 hw => ?_)
  refine G_aload_n (pc := 8) (i := 0) hC dJ3_clear_8 rfl rfl ?_
  refine G_getI (pc := 9) (ci := 22) (C := RJ3) (T := TJ3) (N := 3) (f := 2) hC rfl in_J3 (Nat.le_of_ble_eq_true rfl) q209 (fun _ h => h) dJ3_clear_9 hw (fun x3 hw => ?_)
  refine G_callS (pc := 12) (n := 3) (As := [va_rf x1, .int x2, .int x3]) (rest := []) hC (m_J3_circularClear hJ hw) (lw_S q3365 q3366 q89 q3367) hdK_J3_circularClear.2 (by decide) rfl rfl (st_c cat_e (Nat.le_of_ble_eq_true rfl)) dJ3_clear_12 (kU fun M4 hw => ?_)
  refine G_aload_n (pc := 15) (i := 0) hC dJ3_clear_15 rfl rfl ?_
  refine G_aload_n (pc := 16) (i := 0) hC dJ3_clear_16 rfl rfl ?_
  refine G_iconst (pc := 17) (v := 0) hC dJ3_clear_17 (by decide) ?_
  refine G_dup_x1 (pc := 18) hC dJ3_clear_18 rfl (rf_cat _) ?_
  refine G_put (pc := 19) (ci := 22) (C := RJ3) (T := TJ3) (N := 3) (f := 2) tyJ3 hC rfl in_J3 tyJ3_ok nmJ3 (Nat.le_of_ble_eq_true rfl) q209 (fun _ h => h) rfl rfl rfl dJ3_clear_19 hw (fun M5 hw => ?_)
  refine G_put (pc := 22) (ci := 22) (C := RJ3) (T := TJ3) (N := 3) (f := 1) tyJ3 hC rfl in_J3 tyJ3_ok nmJ3 (Nat.le_of_ble_eq_true rfl) q208 (fun _ h => h) rfl rfl rfl dJ3_clear_22 hw (fun M6 hw => ?_)
  exact G_ret (pc := 25) hC hQ dJ3_clear_25 hw
def w_J39_init_s30 (g : gT) (F : Nat) (a0 : Nat) (M : hM) (Q : hM → Prop) : Prop :=
  Q M
theorem m_J39_init_s30 {l : Launch} {g : gT} {F : Nat} {a0 : Nat} {M : hM} {Q : hM → Prop} (hJ : JK l g) (hw : w_J39_init_s30 g F a0 M Q) : MG l g yJ39_init (ws_ yJ39_init cJ39_init 1 none) 1 20 [va_rf (some a0)] M (PU Q) := by
  refine MG_of hJ.2.1 (by decide) (cat_r cat_e) (Nat.le_of_ble_eq_true rfl) (fun k hl hg hin hQ hC => ?_)
  subst hl hg
  show GW k 1 M 0 [some (va_rf (some a0))] []
  refine G_aload_n (pc := 0) (i := 0) hC dJ39_init_0 rfl rfl ?_
  refine G_objInit (pc := 1) hC q2216 q158 q159 rfl rfl (st_c cat_e (Nat.le_of_ble_eq_true rfl)) dJ39_init_1 ?_
  exact G_ret (pc := 4) hC hQ dJ39_init_4 hw
theorem hdK_J39_init_s30 : yJ39_init.cls = "java/util/AbstractMap" ∧ yJ39_init.cls ≠ "java/lang/invoke/MethodHandle" ∧ yJ39_init.cls ≠ "java/lang/invoke/VarHandle" ∧ (parseMethodDescriptor yJ39_init.desc).map (fun d => d.parameters.length) = some 0 := by decide +kernel
def w_J40_init (g : gT) (F : Nat) (a0 : Nat) (M : hM) (Q : hM → Prop) : Prop :=
  (isC M a0 30 ∧ w_J39_init_s30 g F a0  M (fun M1 => pV M1 (some a0) 30 4 (.int (0 : Int32)) fun M2 => pV M2 (some a0) 30 5 (.int (0 : Int32)) fun M3 => pV M3 (some a0) 30 2 (va_rf none) fun M4 => Q M4))
theorem m_J40_init {l : Launch} {g : gT} {F : Nat} {a0 : Nat} {M : hM} {Q : hM → Prop} (hJ : JK l g) (hw : w_J40_init g F a0 M Q) : MG l g yJ40_init (ws_ yJ40_init cJ40_init 1 none) 2 40 [va_rf (some a0)] M (PU Q) := by
  refine MG_of hJ.2.1 (by decide) (cat_r cat_e) (Nat.le_of_ble_eq_true rfl) (fun k hl hg hin hQ hC => ?_)
  subst hl hg
  show GW k 1 M 0 [some (va_rf (some a0))] []
  refine G_aload_n (pc := 0) (i := 0) hC dJ40_init_0 rfl rfl ?_
  obtain ⟨hb, hw⟩ := hw
  refine G_callI (pc := 1) (n := 0) (b := a0) (As := []) (rest := []) hC (m_J39_init_s30 hJ hw) (lw_meth q2215) q135 q2213 q2214 rfl hdK_J39_init_s30.2 (by decide) rfl rfl (st_c cat_e (Nat.le_of_ble_eq_true rfl)) dJ40_init_1 (kU fun M1 hw => ?_)
  refine G_aload_n (pc := 4) (i := 0) hC dJ40_init_4 rfl rfl ?_
  refine G_iconst (pc := 5) (v := 0) hC dJ40_init_5 (by decide) ?_
  refine G_put (pc := 6) (ci := 30) (C := RJ40) (T := TJ40) (N := 9) (f := 4) tyJ40 hC rfl in_J40 tyJ40_ok nmJ40 (Nat.le_of_ble_eq_true rfl) q2219 (fun _ h => h) rfl rfl rfl dJ40_init_6 hw (fun M2 hw => ?_)
  refine G_aload_n (pc := 9) (i := 0) hC dJ40_init_9 rfl rfl ?_
  refine G_iconst (pc := 10) (v := 0) hC dJ40_init_10 (by decide) ?_
  refine G_put (pc := 11) (ci := 30) (C := RJ40) (T := TJ40) (N := 9) (f := 5) tyJ40 hC rfl in_J40 tyJ40_ok nmJ40 (Nat.le_of_ble_eq_true rfl) q2220 (fun _ h => h) rfl rfl rfl dJ40_init_11 hw (fun M3 hw => ?_)
  refine G_aload_n (pc := 14) (i := 0) hC dJ40_init_14 rfl rfl ?_
  refine G_null (pc := 15) hC dJ40_init_15 ?_
  refine G_putF (pc := 16) (ci := 30) (C := RJ40) (T := TJ40) (N := 9) (f := 2) tyJ40 hC rfl in_J40 tyJ40_ok nmJ40 (Nat.le_of_ble_eq_true rfl) q2217 (fun _ h => h) rfl hin rfl (nR_o _ _) (fR_o _ _) dJ40_init_16 hw (fun M4 hw => ?_)
  exact G_ret (pc := 19) hC hQ dJ40_init_19 hw
def w_J40_parentOf_12 (g : gT) (F : Nat) (p0 : Option Nat) (Q : Option Nat → hM → Prop) (s0 : Option Nat) (M : hM) : Prop :=
  Q s0 M
def w_J40_parentOf (g : gT) (F : Nat) (p0 : Option Nat) (M : hM) (Q : Option Nat → hM → Prop) : Prop :=
  ((¬ p0 = none → gF M p0 31 4 fun x1 => w_J40_parentOf_12 g F p0 Q x1 M) ∧ (p0 = none → w_J40_parentOf_12 g F p0 Q none M))
theorem g_J40_parentOf_12 {k : kT} {F : Nat} {p0 : Option Nat} {Q : Option Nat → hM → Prop} (hJ : JK (kl k) (kg k)) (hC : CX k 1 cJ40_parentOf RJ40 (some (.object "java/util/TreeMap$Entry")) 1 12) (hQ : isQ k (PR Q)) (hin : (kt k).name = "parentOf") : ∀ (s0 : Option Nat) (M : hM), w_J40_parentOf_12 (kg k) F p0 Q s0 M → GW k 1 M 12 [some (va_rf p0)] [va_rf s0] := by
  intro s0 M hw
  exact G_aret (pc := 12) hC (Or.inl ⟨_, rfl⟩) hQ dJ40_parentOf_12 hw
theorem m_J40_parentOf {l : Launch} {g : gT} {F : Nat} {p0 : Option Nat} {M : hM} {Q : Option Nat → hM → Prop} (hJ : JK l g) (hw : w_J40_parentOf g F p0 M Q) : MG l g yJ40_parentOf (ws_ yJ40_parentOf cJ40_parentOf 1 (some (.object "java/util/TreeMap$Entry"))) 1 12 [va_rf p0] M (PR Q) := by
  refine MG_of hJ.2.1 (by decide) (cat_r cat_e) (Nat.le_of_ble_eq_true rfl) (fun k hl hg hin hQ hC => ?_)
  subst hl hg
  show GW k 1 M 0 [some (va_rf p0)] []
  refine G_aload_n (pc := 0) (i := 0) hC dJ40_parentOf_0 rfl rfl ?_
  refine G_ifnonnull (pc := 1) (tgt := 8) hC dJ40_parentOf_1 (by decide) (fun hc => ?_) (fun hc => ?_)
  · replace hw := hw.1 hc
    refine G_aload_n (pc := 8) (i := 0) hC dJ40_parentOf_8 rfl rfl ?_
    refine G_getF (pc := 9) (ci := 31) (C := RJ41) (T := TJ41) (N := 6) (f := 4) hC rfl in_J41 (Nat.le_of_ble_eq_true rfl) q2291 (fun _ h => h) dJ40_parentOf_9 hw (fun x1 hw => ?_)
    exact g_J40_parentOf_12 hJ hC hQ hin  x1 M hw
  · replace hw := hw.2 hc
    refine G_null (pc := 4) hC dJ40_parentOf_4 ?_
    refine G_goto (pc := 5) (tgt := 12) hC dJ40_parentOf_5 (by decide) ?_
    exact g_J40_parentOf_12 hJ hC hQ hin  none M hw
def w_J40_setColor_9 (g : gT) (F : Nat) (p0 : Option Nat) (p1 : Int32) (Q : hM → Prop) (M : hM) : Prop :=
  Q M
def w_J40_setColor (g : gT) (F : Nat) (p0 : Option Nat) (p1 : Int32) (M : hM) (Q : hM → Prop) : Prop :=
  ((p0 = none → w_J40_setColor_9 g F p0 p1 Q M) ∧ (¬ p0 = none → pZ M p0 31 5 p1 fun M1 => w_J40_setColor_9 g F p0 p1 Q M1))
theorem g_J40_setColor_9 {k : kT} {F : Nat} {p0 : Option Nat} {p1 : Int32} {Q : hM → Prop} (hJ : JK (kl k) (kg k)) (hC : CX k 2 cJ40_setColor RJ40 none 1 12) (hQ : isQ k (PU Q)) (hin : (kt k).name = "setColor") : ∀  (M : hM), w_J40_setColor_9 (kg k) F p0 p1 Q  M → GW k 2 M 9 [some (va_rf p0), some (.int p1)] [] := by
  intro  M hw
  exact G_ret (pc := 9) hC hQ dJ40_setColor_9 hw
theorem m_J40_setColor {l : Launch} {g : gT} {F : Nat} {p0 : Option Nat} {p1 : Int32} {M : hM} {Q : hM → Prop} (hJ : JK l g) (hw : w_J40_setColor g F p0 p1 M Q) : MG l g yJ40_setColor (ws_ yJ40_setColor cJ40_setColor 2 none) 1 12 [va_rf p0, .int p1] M (PU Q) := by
  refine MG_of hJ.2.1 (by decide) (cat_r (cat_i cat_e)) (Nat.le_of_ble_eq_true rfl) (fun k hl hg hin hQ hC => ?_)
  subst hl hg
  show GW k 2 M 0 [some (va_rf p0), some (.int p1)] []
  refine G_aload_n (pc := 0) (i := 0) hC dJ40_setColor_0 rfl rfl ?_
  refine G_ifnull (pc := 1) (tgt := 9) hC dJ40_setColor_1 (by decide) (fun hc => ?_) (fun hc => ?_)
  · replace hw := hw.1 hc
    exact g_J40_setColor_9 hJ hC hQ hin   M hw
  · replace hw := hw.2 hc
    refine G_aload_n (pc := 4) (i := 0) hC dJ40_setColor_4 rfl rfl ?_
    refine G_iload_n (pc := 5) (i := 1) hC dJ40_setColor_5 rfl rfl ?_
    obtain ⟨hz, hw⟩ := hw
    refine G_put (pc := 6) (ci := 31) (C := RJ41) (T := TJ41) (N := 6) (f := 5) tyJ41 hC rfl in_J41 tyJ41_ok nmJ41 (Nat.le_of_ble_eq_true rfl) q2293 (fun _ h => h) rfl (nz_n hz) (nz_f hz) dJ40_setColor_6 hw (fun M1 hw => ?_)
    exact g_J40_setColor_9 hJ hC hQ hin   M1 hw
def w_J40_rotateLeft_95 (g : gT) (F : Nat) (a0 : Nat) (p1 : Option Nat) (Q : hM → Prop) (M : hM) : Prop :=
  Q M
def w_J40_rotateLeft_85 (g : gT) (F : Nat) (a0 : Nat) (p1 : Option Nat) (Q : hM → Prop) (v2 : Option Nat) (M : hM) : Prop :=
  pV M v2 31 2 (va_rf p1) fun M1 => pV M1 p1 31 4 (va_rf v2) fun M2 => w_J40_rotateLeft_95 g F a0 p1 Q M2
def w_J40_rotateLeft_32 (g : gT) (F : Nat) (a0 : Nat) (p1 : Option Nat) (Q : hM → Prop) (v2 : Option Nat) (M : hM) : Prop :=
  gF M p1 31 4 fun x1 => pV M v2 31 4 (va_rf x1) fun M2 => gF M2 p1 31 4 fun x3 => ((¬ x3 = none → gF M2 p1 31 4 fun x4 => gF M2 x4 31 2 fun x5 => ((¬ x5 = p1 → gF M2 p1 31 4 fun x6 => pV M2 x6 31 3 (va_rf v2) fun M7 => w_J40_rotateLeft_85 g F a0 p1 Q v2 M7) ∧ (x5 = p1 → gF M2 p1 31 4 fun x8 => pV M2 x8 31 2 (va_rf v2) fun M9 => w_J40_rotateLeft_85 g F a0 p1 Q v2 M9))) ∧ (x3 = none → pV M2 (some a0) 30 3 (va_rf v2) fun M10 => w_J40_rotateLeft_85 g F a0 p1 Q v2 M10))
def w_J40_rotateLeft (g : gT) (F : Nat) (a0 : Nat) (p1 : Option Nat) (M : hM) (Q : hM → Prop) : Prop :=
  ((p1 = none → w_J40_rotateLeft_95 g F a0 p1 Q M) ∧ (¬ p1 = none → gF M p1 31 3 fun x1 => gF M x1 31 2 fun x2 => pV M p1 31 3 (va_rf x2) fun M3 => gF M3 x1 31 2 fun x4 => ((x4 = none → w_J40_rotateLeft_32 g F a0 p1 Q x1 M3) ∧ (¬ x4 = none → gF M3 x1 31 2 fun x5 => pV M3 x5 31 4 (va_rf p1) fun M6 => w_J40_rotateLeft_32 g F a0 p1 Q x1 M6))))
theorem g_J40_rotateLeft_95 {k : kT} {F : Nat} {a0 : Nat} {p1 : Option Nat} {Q : hM → Prop} (hJ : JK (kl k) (kg k)) (hC : CX k 3 cJ40_rotateLeft RJ40 none 1 12) (hQ : isQ k (PU Q)) (hin : (kt k).name = "rotateLeft") : ∀  (M : hM), w_J40_rotateLeft_95 (kg k) F a0 p1 Q  M → GW k 3 M 95 [some (va_rf (some a0)), some (va_rf p1), none] [] := by
  intro  M hw
  exact G_ret (pc := 95) hC hQ dJ40_rotateLeft_95 hw
theorem g_J40_rotateLeft_85 {k : kT} {F : Nat} {a0 : Nat} {p1 : Option Nat} {Q : hM → Prop} (hJ : JK (kl k) (kg k)) (hC : CX k 3 cJ40_rotateLeft RJ40 none 1 12) (hQ : isQ k (PU Q)) (hin : (kt k).name = "rotateLeft") : ∀ (v2 : Option Nat) (M : hM), w_J40_rotateLeft_85 (kg k) F a0 p1 Q v2 M → GW k 3 M 85 [some (va_rf (some a0)), some (va_rf p1), some (va_rf v2)] [] := by
  intro v2 M hw
  refine G_aload_n (pc := 85) (i := 2) hC dJ40_rotateLeft_85 rfl rfl ?_
  refine G_aload_n (pc := 86) (i := 1) hC dJ40_rotateLeft_86 rfl rfl ?_
  refine G_put (pc := 87) (ci := 31) (C := RJ41) (T := TJ41) (N := 6) (f := 2) tyJ41 hC rfl in_J41 tyJ41_ok nmJ41 (Nat.le_of_ble_eq_true rfl) q2288 (fun _ h => h) rfl (nR_o _ _) (fR_o _ _) dJ40_rotateLeft_87 hw (fun M1 hw => ?_)
  refine G_aload_n (pc := 90) (i := 1) hC dJ40_rotateLeft_90 rfl rfl ?_
  refine G_aload_n (pc := 91) (i := 2) hC dJ40_rotateLeft_91 rfl rfl ?_
  refine G_put (pc := 92) (ci := 31) (C := RJ41) (T := TJ41) (N := 6) (f := 4) tyJ41 hC rfl in_J41 tyJ41_ok nmJ41 (Nat.le_of_ble_eq_true rfl) q2291 (fun _ h => h) rfl (nR_o _ _) (fR_o _ _) dJ40_rotateLeft_92 hw (fun M2 hw => ?_)
  refine G_loc (lv' := [some (va_rf (some a0)), some (va_rf p1), none]) ⟨Or.inr rfl, Or.inr rfl, Or.inl rfl, trivial⟩ ?_
  exact g_J40_rotateLeft_95 hJ hC hQ hin   M2 hw
theorem g_J40_rotateLeft_32 {k : kT} {F : Nat} {a0 : Nat} {p1 : Option Nat} {Q : hM → Prop} (hJ : JK (kl k) (kg k)) (hC : CX k 3 cJ40_rotateLeft RJ40 none 1 12) (hQ : isQ k (PU Q)) (hin : (kt k).name = "rotateLeft") : ∀ (v2 : Option Nat) (M : hM), w_J40_rotateLeft_32 (kg k) F a0 p1 Q v2 M → GW k 3 M 32 [some (va_rf (some a0)), some (va_rf p1), some (va_rf v2)] [] := by
  intro v2 M hw
  refine G_aload_n (pc := 32) (i := 2) hC dJ40_rotateLeft_32 rfl rfl ?_
  refine G_aload_n (pc := 33) (i := 1) hC dJ40_rotateLeft_33 rfl rfl ?_
  refine G_getF (pc := 34) (ci := 31) (C := RJ41) (T := TJ41) (N := 6) (f := 4) hC rfl in_J41 (Nat.le_of_ble_eq_true rfl) q2291 (fun _ h => h) dJ40_rotateLeft_34 hw (fun x1 hw => ?_)
  refine G_put (pc := 37) (ci := 31) (C := RJ41) (T := TJ41) (N := 6) (f := 4) tyJ41 hC rfl in_J41 tyJ41_ok nmJ41 (Nat.le_of_ble_eq_true rfl) q2291 (fun _ h => h) rfl (nR_o _ _) (fR_o _ _) dJ40_rotateLeft_37 hw (fun M2 hw => ?_)
  refine G_aload_n (pc := 40) (i := 1) hC dJ40_rotateLeft_40 rfl rfl ?_
  refine G_getF (pc := 41) (ci := 31) (C := RJ41) (T := TJ41) (N := 6) (f := 4) hC rfl in_J41 (Nat.le_of_ble_eq_true rfl) q2291 (fun _ h => h) dJ40_rotateLeft_41 hw (fun x3 hw => ?_)
  refine G_ifnonnull (pc := 44) (tgt := 55) hC dJ40_rotateLeft_44 (by decide) (fun hc => ?_) (fun hc => ?_)
  · replace hw := hw.1 hc
    refine G_aload_n (pc := 55) (i := 1) hC dJ40_rotateLeft_55 rfl rfl ?_
    refine G_getF (pc := 56) (ci := 31) (C := RJ41) (T := TJ41) (N := 6) (f := 4) hC rfl in_J41 (Nat.le_of_ble_eq_true rfl) q2291 (fun _ h => h) dJ40_rotateLeft_56 hw (fun x4 hw => ?_)
    refine G_getF (pc := 59) (ci := 31) (C := RJ41) (T := TJ41) (N := 6) (f := 2) hC rfl in_J41 (Nat.le_of_ble_eq_true rfl) q2288 (fun _ h => h) dJ40_rotateLeft_59 hw (fun x5 hw => ?_)
    refine G_aload_n (pc := 62) (i := 1) hC dJ40_rotateLeft_62 rfl rfl ?_
    refine G_acmp_ne (pc := 63) (tgt := 77) hC dJ40_rotateLeft_63 (by decide) (fun hc => ?_) (fun hc => ?_)
    · replace hw := hw.1 hc
      refine G_aload_n (pc := 77) (i := 1) hC dJ40_rotateLeft_77 rfl rfl ?_
      refine G_getF (pc := 78) (ci := 31) (C := RJ41) (T := TJ41) (N := 6) (f := 4) hC rfl in_J41 (Nat.le_of_ble_eq_true rfl) q2291 (fun _ h => h) dJ40_rotateLeft_78 hw (fun x6 hw => ?_)
      refine G_aload_n (pc := 81) (i := 2) hC dJ40_rotateLeft_81 rfl rfl ?_
      refine G_put (pc := 82) (ci := 31) (C := RJ41) (T := TJ41) (N := 6) (f := 3) tyJ41 hC rfl in_J41 tyJ41_ok nmJ41 (Nat.le_of_ble_eq_true rfl) q2289 (fun _ h => h) rfl (nR_o _ _) (fR_o _ _) dJ40_rotateLeft_82 hw (fun M7 hw => ?_)
      exact g_J40_rotateLeft_85 hJ hC hQ hin  v2 M7 hw
    · replace hw := hw.2 hc
      refine G_aload_n (pc := 66) (i := 1) hC dJ40_rotateLeft_66 rfl rfl ?_
      refine G_getF (pc := 67) (ci := 31) (C := RJ41) (T := TJ41) (N := 6) (f := 4) hC rfl in_J41 (Nat.le_of_ble_eq_true rfl) q2291 (fun _ h => h) dJ40_rotateLeft_67 hw (fun x8 hw => ?_)
      refine G_aload_n (pc := 70) (i := 2) hC dJ40_rotateLeft_70 rfl rfl ?_
      refine G_put (pc := 71) (ci := 31) (C := RJ41) (T := TJ41) (N := 6) (f := 2) tyJ41 hC rfl in_J41 tyJ41_ok nmJ41 (Nat.le_of_ble_eq_true rfl) q2288 (fun _ h => h) rfl (nR_o _ _) (fR_o _ _) dJ40_rotateLeft_71 hw (fun M9 hw => ?_)
      refine G_goto (pc := 74) (tgt := 85) hC dJ40_rotateLeft_74 (by decide) ?_
      exact g_J40_rotateLeft_85 hJ hC hQ hin  v2 M9 hw
  · replace hw := hw.2 hc
    refine G_aload_n (pc := 47) (i := 0) hC dJ40_rotateLeft_47 rfl rfl ?_
    refine G_aload_n (pc := 48) (i := 2) hC dJ40_rotateLeft_48 rfl rfl ?_
    refine G_put (pc := 49) (ci := 30) (C := RJ40) (T := TJ40) (N := 9) (f := 3) tyJ40 hC rfl in_J40 tyJ40_ok nmJ40 (Nat.le_of_ble_eq_true rfl) q2218 (fun _ h => h) rfl (nR_o _ _) (fR_o _ _) dJ40_rotateLeft_49 hw (fun M10 hw => ?_)
    refine G_goto (pc := 52) (tgt := 85) hC dJ40_rotateLeft_52 (by decide) ?_
    exact g_J40_rotateLeft_85 hJ hC hQ hin  v2 M10 hw
theorem m_J40_rotateLeft {l : Launch} {g : gT} {F : Nat} {a0 : Nat} {p1 : Option Nat} {M : hM} {Q : hM → Prop} (hJ : JK l g) (hw : w_J40_rotateLeft g F a0 p1 M Q) : MG l g yJ40_rotateLeft (ws_ yJ40_rotateLeft cJ40_rotateLeft 3 none) 1 12 [va_rf (some a0), va_rf p1] M (PU Q) := by
  refine MG_of hJ.2.1 (by decide) (cat_r (cat_r cat_e)) (Nat.le_of_ble_eq_true rfl) (fun k hl hg hin hQ hC => ?_)
  subst hl hg
  show GW k 3 M 0 [some (va_rf (some a0)), some (va_rf p1), none] []
  refine G_aload_n (pc := 0) (i := 1) hC dJ40_rotateLeft_0 rfl rfl ?_
  refine G_ifnull (pc := 1) (tgt := 95) hC dJ40_rotateLeft_1 (by decide) (fun hc => ?_) (fun hc => ?_)
  · replace hw := hw.1 hc
    exact g_J40_rotateLeft_95 hJ hC hQ hin   M hw
  · replace hw := hw.2 hc
    refine G_aload_n (pc := 4) (i := 1) hC dJ40_rotateLeft_4 rfl rfl ?_
    refine G_getF (pc := 5) (ci := 31) (C := RJ41) (T := TJ41) (N := 6) (f := 3) hC rfl in_J41 (Nat.le_of_ble_eq_true rfl) q2289 (fun _ h => h) dJ40_rotateLeft_5 hw (fun x1 hw => ?_)
    refine G_astore_n (pc := 8) (i := 2) (lw := [some (va_rf (some a0)), some (va_rf p1), some (va_rf x1)]) hC dJ40_rotateLeft_8 rfl (Nat.le_of_ble_eq_true rfl) rfl ?_
    refine G_aload_n (pc := 9) (i := 1) hC dJ40_rotateLeft_9 rfl rfl ?_
    refine G_aload_n (pc := 10) (i := 2) hC dJ40_rotateLeft_10 rfl rfl ?_
    refine G_getF (pc := 11) (ci := 31) (C := RJ41) (T := TJ41) (N := 6) (f := 2) hC rfl in_J41 (Nat.le_of_ble_eq_true rfl) q2288 (fun _ h => h) dJ40_rotateLeft_11 hw (fun x2 hw => ?_)
    refine G_put (pc := 14) (ci := 31) (C := RJ41) (T := TJ41) (N := 6) (f := 3) tyJ41 hC rfl in_J41 tyJ41_ok nmJ41 (Nat.le_of_ble_eq_true rfl) q2289 (fun _ h => h) rfl (nR_o _ _) (fR_o _ _) dJ40_rotateLeft_14 hw (fun M3 hw => ?_)
    refine G_aload_n (pc := 17) (i := 2) hC dJ40_rotateLeft_17 rfl rfl ?_
    refine G_getF (pc := 18) (ci := 31) (C := RJ41) (T := TJ41) (N := 6) (f := 2) hC rfl in_J41 (Nat.le_of_ble_eq_true rfl) q2288 (fun _ h => h) dJ40_rotateLeft_18 hw (fun x4 hw => ?_)
    refine G_ifnull (pc := 21) (tgt := 32) hC dJ40_rotateLeft_21 (by decide) (fun hc => ?_) (fun hc => ?_)
    · replace hw := hw.1 hc
      exact g_J40_rotateLeft_32 hJ hC hQ hin  x1 M3 hw
    · replace hw := hw.2 hc
      refine G_aload_n (pc := 24) (i := 2) hC dJ40_rotateLeft_24 rfl rfl ?_
      refine G_getF (pc := 25) (ci := 31) (C := RJ41) (T := TJ41) (N := 6) (f := 2) hC rfl in_J41 (Nat.le_of_ble_eq_true rfl) q2288 (fun _ h => h) dJ40_rotateLeft_25 hw (fun x5 hw => ?_)
      refine G_aload_n (pc := 28) (i := 1) hC dJ40_rotateLeft_28 rfl rfl ?_
      refine G_put (pc := 29) (ci := 31) (C := RJ41) (T := TJ41) (N := 6) (f := 4) tyJ41 hC rfl in_J41 tyJ41_ok nmJ41 (Nat.le_of_ble_eq_true rfl) q2291 (fun _ h => h) rfl (nR_o _ _) (fR_o _ _) dJ40_rotateLeft_29 hw (fun M6 hw => ?_)
      exact g_J40_rotateLeft_32 hJ hC hQ hin  x1 M6 hw
