/-! STAGE 1, printed by wip/D-93524w/genj.py: the library's members, part 1 -/
set_option maxRecDepth 100000
def w_J40_rotateRight_95 (g : gT) (F : Nat) (a0 : Nat) (p1 : Option Nat) (Q : hM → Prop) (M : hM) : Prop :=
  Q M
def w_J40_rotateRight_85 (g : gT) (F : Nat) (a0 : Nat) (p1 : Option Nat) (Q : hM → Prop) (v2 : Option Nat) (M : hM) : Prop :=
  pV M v2 31 3 (va_rf p1) fun M1 => pV M1 p1 31 4 (va_rf v2) fun M2 => w_J40_rotateRight_95 g F a0 p1 Q M2
def w_J40_rotateRight_32 (g : gT) (F : Nat) (a0 : Nat) (p1 : Option Nat) (Q : hM → Prop) (v2 : Option Nat) (M : hM) : Prop :=
  gF M p1 31 4 fun x1 => pV M v2 31 4 (va_rf x1) fun M2 => gF M2 p1 31 4 fun x3 => ((¬ x3 = none → gF M2 p1 31 4 fun x4 => gF M2 x4 31 3 fun x5 => ((¬ x5 = p1 → gF M2 p1 31 4 fun x6 => pV M2 x6 31 2 (va_rf v2) fun M7 => w_J40_rotateRight_85 g F a0 p1 Q v2 M7) ∧ (x5 = p1 → gF M2 p1 31 4 fun x8 => pV M2 x8 31 3 (va_rf v2) fun M9 => w_J40_rotateRight_85 g F a0 p1 Q v2 M9))) ∧ (x3 = none → pV M2 (some a0) 30 3 (va_rf v2) fun M10 => w_J40_rotateRight_85 g F a0 p1 Q v2 M10))
def w_J40_rotateRight (g : gT) (F : Nat) (a0 : Nat) (p1 : Option Nat) (M : hM) (Q : hM → Prop) : Prop :=
  ((p1 = none → w_J40_rotateRight_95 g F a0 p1 Q M) ∧ (¬ p1 = none → gF M p1 31 2 fun x1 => gF M x1 31 3 fun x2 => pV M p1 31 2 (va_rf x2) fun M3 => gF M3 x1 31 3 fun x4 => ((x4 = none → w_J40_rotateRight_32 g F a0 p1 Q x1 M3) ∧ (¬ x4 = none → gF M3 x1 31 3 fun x5 => pV M3 x5 31 4 (va_rf p1) fun M6 => w_J40_rotateRight_32 g F a0 p1 Q x1 M6))))
theorem g_J40_rotateRight_95 {k : kT} {F : Nat} {a0 : Nat} {p1 : Option Nat} {Q : hM → Prop} (hJ : JK (kl k) (kg k)) (hC : CX k 3 cJ40_rotateRight RJ40 none 1 12) (hQ : isQ k (PU Q)) (hin : (kt k).name = "rotateRight") : ∀  (M : hM), w_J40_rotateRight_95 (kg k) F a0 p1 Q  M → GW k 3 M 95 [some (va_rf (some a0)), some (va_rf p1), none] [] := by
  intro  M hw
  exact G_ret (pc := 95) hC hQ dJ40_rotateRight_95 hw
theorem g_J40_rotateRight_85 {k : kT} {F : Nat} {a0 : Nat} {p1 : Option Nat} {Q : hM → Prop} (hJ : JK (kl k) (kg k)) (hC : CX k 3 cJ40_rotateRight RJ40 none 1 12) (hQ : isQ k (PU Q)) (hin : (kt k).name = "rotateRight") : ∀ (v2 : Option Nat) (M : hM), w_J40_rotateRight_85 (kg k) F a0 p1 Q v2 M → GW k 3 M 85 [some (va_rf (some a0)), some (va_rf p1), some (va_rf v2)] [] := by
  intro v2 M hw
  refine G_aload_n (pc := 85) (i := 2) hC dJ40_rotateRight_85 rfl rfl ?_
  refine G_aload_n (pc := 86) (i := 1) hC dJ40_rotateRight_86 rfl rfl ?_
  refine G_put (pc := 87) (ci := 31) (C := RJ41) (T := TJ41) (N := 6) (f := 3) tyJ41 hC rfl in_J41 tyJ41_ok nmJ41 (Nat.le_of_ble_eq_true rfl) q2289 (fun _ h => h) rfl (nR_o _ _) (fR_o _ _) dJ40_rotateRight_87 hw (fun M1 hw => ?_)
  refine G_aload_n (pc := 90) (i := 1) hC dJ40_rotateRight_90 rfl rfl ?_
  refine G_aload_n (pc := 91) (i := 2) hC dJ40_rotateRight_91 rfl rfl ?_
  refine G_put (pc := 92) (ci := 31) (C := RJ41) (T := TJ41) (N := 6) (f := 4) tyJ41 hC rfl in_J41 tyJ41_ok nmJ41 (Nat.le_of_ble_eq_true rfl) q2291 (fun _ h => h) rfl (nR_o _ _) (fR_o _ _) dJ40_rotateRight_92 hw (fun M2 hw => ?_)
  refine G_loc (lv' := [some (va_rf (some a0)), some (va_rf p1), none]) ⟨Or.inr rfl, Or.inr rfl, Or.inl rfl, trivial⟩ ?_
  exact g_J40_rotateRight_95 hJ hC hQ hin   M2 hw
theorem g_J40_rotateRight_32 {k : kT} {F : Nat} {a0 : Nat} {p1 : Option Nat} {Q : hM → Prop} (hJ : JK (kl k) (kg k)) (hC : CX k 3 cJ40_rotateRight RJ40 none 1 12) (hQ : isQ k (PU Q)) (hin : (kt k).name = "rotateRight") : ∀ (v2 : Option Nat) (M : hM), w_J40_rotateRight_32 (kg k) F a0 p1 Q v2 M → GW k 3 M 32 [some (va_rf (some a0)), some (va_rf p1), some (va_rf v2)] [] := by
  intro v2 M hw
  refine G_aload_n (pc := 32) (i := 2) hC dJ40_rotateRight_32 rfl rfl ?_
  refine G_aload_n (pc := 33) (i := 1) hC dJ40_rotateRight_33 rfl rfl ?_
  refine G_getF (pc := 34) (ci := 31) (C := RJ41) (T := TJ41) (N := 6) (f := 4) hC rfl in_J41 (Nat.le_of_ble_eq_true rfl) q2291 (fun _ h => h) dJ40_rotateRight_34 hw (fun x1 hw => ?_)
  refine G_put (pc := 37) (ci := 31) (C := RJ41) (T := TJ41) (N := 6) (f := 4) tyJ41 hC rfl in_J41 tyJ41_ok nmJ41 (Nat.le_of_ble_eq_true rfl) q2291 (fun _ h => h) rfl (nR_o _ _) (fR_o _ _) dJ40_rotateRight_37 hw (fun M2 hw => ?_)
  refine G_aload_n (pc := 40) (i := 1) hC dJ40_rotateRight_40 rfl rfl ?_
  refine G_getF (pc := 41) (ci := 31) (C := RJ41) (T := TJ41) (N := 6) (f := 4) hC rfl in_J41 (Nat.le_of_ble_eq_true rfl) q2291 (fun _ h => h) dJ40_rotateRight_41 hw (fun x3 hw => ?_)
  refine G_ifnonnull (pc := 44) (tgt := 55) hC dJ40_rotateRight_44 (by decide) (fun hc => ?_) (fun hc => ?_)
  · replace hw := hw.1 hc
    refine G_aload_n (pc := 55) (i := 1) hC dJ40_rotateRight_55 rfl rfl ?_
    refine G_getF (pc := 56) (ci := 31) (C := RJ41) (T := TJ41) (N := 6) (f := 4) hC rfl in_J41 (Nat.le_of_ble_eq_true rfl) q2291 (fun _ h => h) dJ40_rotateRight_56 hw (fun x4 hw => ?_)
    refine G_getF (pc := 59) (ci := 31) (C := RJ41) (T := TJ41) (N := 6) (f := 3) hC rfl in_J41 (Nat.le_of_ble_eq_true rfl) q2289 (fun _ h => h) dJ40_rotateRight_59 hw (fun x5 hw => ?_)
    refine G_aload_n (pc := 62) (i := 1) hC dJ40_rotateRight_62 rfl rfl ?_
    refine G_acmp_ne (pc := 63) (tgt := 77) hC dJ40_rotateRight_63 (by decide) (fun hc => ?_) (fun hc => ?_)
    · replace hw := hw.1 hc
      refine G_aload_n (pc := 77) (i := 1) hC dJ40_rotateRight_77 rfl rfl ?_
      refine G_getF (pc := 78) (ci := 31) (C := RJ41) (T := TJ41) (N := 6) (f := 4) hC rfl in_J41 (Nat.le_of_ble_eq_true rfl) q2291 (fun _ h => h) dJ40_rotateRight_78 hw (fun x6 hw => ?_)
      refine G_aload_n (pc := 81) (i := 2) hC dJ40_rotateRight_81 rfl rfl ?_
      refine G_put (pc := 82) (ci := 31) (C := RJ41) (T := TJ41) (N := 6) (f := 2) tyJ41 hC rfl in_J41 tyJ41_ok nmJ41 (Nat.le_of_ble_eq_true rfl) q2288 (fun _ h => h) rfl (nR_o _ _) (fR_o _ _) dJ40_rotateRight_82 hw (fun M7 hw => ?_)
      exact g_J40_rotateRight_85 hJ hC hQ hin  v2 M7 hw
    · replace hw := hw.2 hc
      refine G_aload_n (pc := 66) (i := 1) hC dJ40_rotateRight_66 rfl rfl ?_
      refine G_getF (pc := 67) (ci := 31) (C := RJ41) (T := TJ41) (N := 6) (f := 4) hC rfl in_J41 (Nat.le_of_ble_eq_true rfl) q2291 (fun _ h => h) dJ40_rotateRight_67 hw (fun x8 hw => ?_)
      refine G_aload_n (pc := 70) (i := 2) hC dJ40_rotateRight_70 rfl rfl ?_
      refine G_put (pc := 71) (ci := 31) (C := RJ41) (T := TJ41) (N := 6) (f := 3) tyJ41 hC rfl in_J41 tyJ41_ok nmJ41 (Nat.le_of_ble_eq_true rfl) q2289 (fun _ h => h) rfl (nR_o _ _) (fR_o _ _) dJ40_rotateRight_71 hw (fun M9 hw => ?_)
      refine G_goto (pc := 74) (tgt := 85) hC dJ40_rotateRight_74 (by decide) ?_
      exact g_J40_rotateRight_85 hJ hC hQ hin  v2 M9 hw
  · replace hw := hw.2 hc
    refine G_aload_n (pc := 47) (i := 0) hC dJ40_rotateRight_47 rfl rfl ?_
    refine G_aload_n (pc := 48) (i := 2) hC dJ40_rotateRight_48 rfl rfl ?_
    refine G_put (pc := 49) (ci := 30) (C := RJ40) (T := TJ40) (N := 9) (f := 3) tyJ40 hC rfl in_J40 tyJ40_ok nmJ40 (Nat.le_of_ble_eq_true rfl) q2218 (fun _ h => h) rfl (nR_o _ _) (fR_o _ _) dJ40_rotateRight_49 hw (fun M10 hw => ?_)
    refine G_goto (pc := 52) (tgt := 85) hC dJ40_rotateRight_52 (by decide) ?_
    exact g_J40_rotateRight_85 hJ hC hQ hin  v2 M10 hw
theorem m_J40_rotateRight {l : Launch} {g : gT} {F : Nat} {a0 : Nat} {p1 : Option Nat} {M : hM} {Q : hM → Prop} (hJ : JK l g) (hw : w_J40_rotateRight g F a0 p1 M Q) : MG l g yJ40_rotateRight (ws_ yJ40_rotateRight cJ40_rotateRight 3 none) 1 12 [va_rf (some a0), va_rf p1] M (PU Q) := by
  refine MG_of hJ.2.1 (by decide) (cat_r (cat_r cat_e)) (Nat.le_of_ble_eq_true rfl) (fun k hl hg hin hQ hC => ?_)
  subst hl hg
  show GW k 3 M 0 [some (va_rf (some a0)), some (va_rf p1), none] []
  refine G_aload_n (pc := 0) (i := 1) hC dJ40_rotateRight_0 rfl rfl ?_
  refine G_ifnull (pc := 1) (tgt := 95) hC dJ40_rotateRight_1 (by decide) (fun hc => ?_) (fun hc => ?_)
  · replace hw := hw.1 hc
    exact g_J40_rotateRight_95 hJ hC hQ hin   M hw
  · replace hw := hw.2 hc
    refine G_aload_n (pc := 4) (i := 1) hC dJ40_rotateRight_4 rfl rfl ?_
    refine G_getF (pc := 5) (ci := 31) (C := RJ41) (T := TJ41) (N := 6) (f := 2) hC rfl in_J41 (Nat.le_of_ble_eq_true rfl) q2288 (fun _ h => h) dJ40_rotateRight_5 hw (fun x1 hw => ?_)
    refine G_astore_n (pc := 8) (i := 2) (lw := [some (va_rf (some a0)), some (va_rf p1), some (va_rf x1)]) hC dJ40_rotateRight_8 rfl (Nat.le_of_ble_eq_true rfl) rfl ?_
    refine G_aload_n (pc := 9) (i := 1) hC dJ40_rotateRight_9 rfl rfl ?_
    refine G_aload_n (pc := 10) (i := 2) hC dJ40_rotateRight_10 rfl rfl ?_
    refine G_getF (pc := 11) (ci := 31) (C := RJ41) (T := TJ41) (N := 6) (f := 3) hC rfl in_J41 (Nat.le_of_ble_eq_true rfl) q2289 (fun _ h => h) dJ40_rotateRight_11 hw (fun x2 hw => ?_)
    refine G_put (pc := 14) (ci := 31) (C := RJ41) (T := TJ41) (N := 6) (f := 2) tyJ41 hC rfl in_J41 tyJ41_ok nmJ41 (Nat.le_of_ble_eq_true rfl) q2288 (fun _ h => h) rfl (nR_o _ _) (fR_o _ _) dJ40_rotateRight_14 hw (fun M3 hw => ?_)
    refine G_aload_n (pc := 17) (i := 2) hC dJ40_rotateRight_17 rfl rfl ?_
    refine G_getF (pc := 18) (ci := 31) (C := RJ41) (T := TJ41) (N := 6) (f := 3) hC rfl in_J41 (Nat.le_of_ble_eq_true rfl) q2289 (fun _ h => h) dJ40_rotateRight_18 hw (fun x4 hw => ?_)
    refine G_ifnull (pc := 21) (tgt := 32) hC dJ40_rotateRight_21 (by decide) (fun hc => ?_) (fun hc => ?_)
    · replace hw := hw.1 hc
      exact g_J40_rotateRight_32 hJ hC hQ hin  x1 M3 hw
    · replace hw := hw.2 hc
      refine G_aload_n (pc := 24) (i := 2) hC dJ40_rotateRight_24 rfl rfl ?_
      refine G_getF (pc := 25) (ci := 31) (C := RJ41) (T := TJ41) (N := 6) (f := 3) hC rfl in_J41 (Nat.le_of_ble_eq_true rfl) q2289 (fun _ h => h) dJ40_rotateRight_25 hw (fun x5 hw => ?_)
      refine G_aload_n (pc := 28) (i := 1) hC dJ40_rotateRight_28 rfl rfl ?_
      refine G_put (pc := 29) (ci := 31) (C := RJ41) (T := TJ41) (N := 6) (f := 4) tyJ41 hC rfl in_J41 tyJ41_ok nmJ41 (Nat.le_of_ble_eq_true rfl) q2291 (fun _ h => h) rfl (nR_o _ _) (fR_o _ _) dJ40_rotateRight_29 hw (fun M6 hw => ?_)
      exact g_J40_rotateRight_32 hJ hC hQ hin  x1 M6 hw
def w_J40_leftOf_12 (g : gT) (F : Nat) (p0 : Option Nat) (Q : Option Nat → hM → Prop) (s0 : Option Nat) (M : hM) : Prop :=
  Q s0 M
def w_J40_leftOf (g : gT) (F : Nat) (p0 : Option Nat) (M : hM) (Q : Option Nat → hM → Prop) : Prop :=
  ((¬ p0 = none → gF M p0 31 2 fun x1 => w_J40_leftOf_12 g F p0 Q x1 M) ∧ (p0 = none → w_J40_leftOf_12 g F p0 Q none M))
theorem g_J40_leftOf_12 {k : kT} {F : Nat} {p0 : Option Nat} {Q : Option Nat → hM → Prop} (hJ : JK (kl k) (kg k)) (hC : CX k 1 cJ40_leftOf RJ40 (some (.object "java/util/TreeMap$Entry")) 1 12) (hQ : isQ k (PR Q)) (hin : (kt k).name = "leftOf") : ∀ (s0 : Option Nat) (M : hM), w_J40_leftOf_12 (kg k) F p0 Q s0 M → GW k 1 M 12 [some (va_rf p0)] [va_rf s0] := by
  intro s0 M hw
  exact G_aret (pc := 12) hC (Or.inl ⟨_, rfl⟩) hQ dJ40_leftOf_12 hw
theorem m_J40_leftOf {l : Launch} {g : gT} {F : Nat} {p0 : Option Nat} {M : hM} {Q : Option Nat → hM → Prop} (hJ : JK l g) (hw : w_J40_leftOf g F p0 M Q) : MG l g yJ40_leftOf (ws_ yJ40_leftOf cJ40_leftOf 1 (some (.object "java/util/TreeMap$Entry"))) 1 12 [va_rf p0] M (PR Q) := by
  refine MG_of hJ.2.1 (by decide) (cat_r cat_e) (Nat.le_of_ble_eq_true rfl) (fun k hl hg hin hQ hC => ?_)
  subst hl hg
  show GW k 1 M 0 [some (va_rf p0)] []
  refine G_aload_n (pc := 0) (i := 0) hC dJ40_leftOf_0 rfl rfl ?_
  refine G_ifnonnull (pc := 1) (tgt := 8) hC dJ40_leftOf_1 (by decide) (fun hc => ?_) (fun hc => ?_)
  · replace hw := hw.1 hc
    refine G_aload_n (pc := 8) (i := 0) hC dJ40_leftOf_8 rfl rfl ?_
    refine G_getF (pc := 9) (ci := 31) (C := RJ41) (T := TJ41) (N := 6) (f := 2) hC rfl in_J41 (Nat.le_of_ble_eq_true rfl) q2288 (fun _ h => h) dJ40_leftOf_9 hw (fun x1 hw => ?_)
    exact g_J40_leftOf_12 hJ hC hQ hin  x1 M hw
  · replace hw := hw.2 hc
    refine G_null (pc := 4) hC dJ40_leftOf_4 ?_
    refine G_goto (pc := 5) (tgt := 12) hC dJ40_leftOf_5 (by decide) ?_
    exact g_J40_leftOf_12 hJ hC hQ hin  none M hw
def w_J40_colorOf_12 (g : gT) (F : Nat) (p0 : Option Nat) (Q : Int32 → hM → Prop) (s0 : Int32) (M : hM) : Prop :=
  ((s0 = 0 ∨ s0 = 1) ∧ Q s0 M)
def w_J40_colorOf (g : gT) (F : Nat) (p0 : Option Nat) (M : hM) (Q : Int32 → hM → Prop) : Prop :=
  ((¬ p0 = none → gI M p0 31 5 fun x1 => w_J40_colorOf_12 g F p0 Q x1 M) ∧ (p0 = none → w_J40_colorOf_12 g F p0 Q (1 : Int32) M))
theorem g_J40_colorOf_12 {k : kT} {F : Nat} {p0 : Option Nat} {Q : Int32 → hM → Prop} (hJ : JK (kl k) (kg k)) (hC : CX k 1 cJ40_colorOf RJ40 (some .boolean) 1 12) (hQ : isQ k (PI Q)) (hin : (kt k).name = "colorOf") : ∀ (s0 : Int32) (M : hM), w_J40_colorOf_12 (kg k) F p0 Q s0 M → GW k 1 M 12 [some (va_rf p0)] [.int s0] := by
  intro s0 M hw
  obtain ⟨hz, hw⟩ := hw
  exact G_iret (pc := 12) hC (nz_n hz) hQ dJ40_colorOf_12 hw
theorem m_J40_colorOf {l : Launch} {g : gT} {F : Nat} {p0 : Option Nat} {M : hM} {Q : Int32 → hM → Prop} (hJ : JK l g) (hw : w_J40_colorOf g F p0 M Q) : MG l g yJ40_colorOf (ws_ yJ40_colorOf cJ40_colorOf 1 (some .boolean)) 1 12 [va_rf p0] M (PI Q) := by
  refine MG_of hJ.2.1 (by decide) (cat_r cat_e) (Nat.le_of_ble_eq_true rfl) (fun k hl hg hin hQ hC => ?_)
  subst hl hg
  show GW k 1 M 0 [some (va_rf p0)] []
  refine G_aload_n (pc := 0) (i := 0) hC dJ40_colorOf_0 rfl rfl ?_
  refine G_ifnonnull (pc := 1) (tgt := 8) hC dJ40_colorOf_1 (by decide) (fun hc => ?_) (fun hc => ?_)
  · replace hw := hw.1 hc
    refine G_aload_n (pc := 8) (i := 0) hC dJ40_colorOf_8 rfl rfl ?_
    refine G_getI (pc := 9) (ci := 31) (C := RJ41) (T := TJ41) (N := 6) (f := 5) hC rfl in_J41 (Nat.le_of_ble_eq_true rfl) q2293 (fun _ h => h) dJ40_colorOf_9 hw (fun x1 hw => ?_)
    exact g_J40_colorOf_12 hJ hC hQ hin  x1 M hw
  · replace hw := hw.2 hc
    refine G_iconst (pc := 4) (v := 1) hC dJ40_colorOf_4 (by decide) ?_
    refine G_goto (pc := 5) (tgt := 12) hC dJ40_colorOf_5 (by decide) ?_
    exact g_J40_colorOf_12 hJ hC hQ hin  (1 : Int32) M hw
def w_J40_rightOf_12 (g : gT) (F : Nat) (p0 : Option Nat) (Q : Option Nat → hM → Prop) (s0 : Option Nat) (M : hM) : Prop :=
  Q s0 M
def w_J40_rightOf (g : gT) (F : Nat) (p0 : Option Nat) (M : hM) (Q : Option Nat → hM → Prop) : Prop :=
  ((¬ p0 = none → gF M p0 31 3 fun x1 => w_J40_rightOf_12 g F p0 Q x1 M) ∧ (p0 = none → w_J40_rightOf_12 g F p0 Q none M))
theorem g_J40_rightOf_12 {k : kT} {F : Nat} {p0 : Option Nat} {Q : Option Nat → hM → Prop} (hJ : JK (kl k) (kg k)) (hC : CX k 1 cJ40_rightOf RJ40 (some (.object "java/util/TreeMap$Entry")) 1 12) (hQ : isQ k (PR Q)) (hin : (kt k).name = "rightOf") : ∀ (s0 : Option Nat) (M : hM), w_J40_rightOf_12 (kg k) F p0 Q s0 M → GW k 1 M 12 [some (va_rf p0)] [va_rf s0] := by
  intro s0 M hw
  exact G_aret (pc := 12) hC (Or.inl ⟨_, rfl⟩) hQ dJ40_rightOf_12 hw
theorem m_J40_rightOf {l : Launch} {g : gT} {F : Nat} {p0 : Option Nat} {M : hM} {Q : Option Nat → hM → Prop} (hJ : JK l g) (hw : w_J40_rightOf g F p0 M Q) : MG l g yJ40_rightOf (ws_ yJ40_rightOf cJ40_rightOf 1 (some (.object "java/util/TreeMap$Entry"))) 1 12 [va_rf p0] M (PR Q) := by
  refine MG_of hJ.2.1 (by decide) (cat_r cat_e) (Nat.le_of_ble_eq_true rfl) (fun k hl hg hin hQ hC => ?_)
  subst hl hg
  show GW k 1 M 0 [some (va_rf p0)] []
  refine G_aload_n (pc := 0) (i := 0) hC dJ40_rightOf_0 rfl rfl ?_
  refine G_ifnonnull (pc := 1) (tgt := 8) hC dJ40_rightOf_1 (by decide) (fun hc => ?_) (fun hc => ?_)
  · replace hw := hw.1 hc
    refine G_aload_n (pc := 8) (i := 0) hC dJ40_rightOf_8 rfl rfl ?_
    refine G_getF (pc := 9) (ci := 31) (C := RJ41) (T := TJ41) (N := 6) (f := 3) hC rfl in_J41 (Nat.le_of_ble_eq_true rfl) q2289 (fun _ h => h) dJ40_rightOf_9 hw (fun x1 hw => ?_)
    exact g_J40_rightOf_12 hJ hC hQ hin  x1 M hw
  · replace hw := hw.2 hc
    refine G_null (pc := 4) hC dJ40_rightOf_4 ?_
    refine G_goto (pc := 5) (tgt := 12) hC dJ40_rightOf_5 (by decide) ?_
    exact g_J40_rightOf_12 hJ hC hQ hin  none M hw
theorem hdK_J40_colorOf : yJ40_colorOf.cls = "java/util/TreeMap" ∧ yJ40_colorOf.cls ≠ "java/lang/invoke/MethodHandle" ∧ yJ40_colorOf.cls ≠ "java/lang/invoke/VarHandle" ∧ (parseMethodDescriptor yJ40_colorOf.desc).map (fun d => d.parameters.length) = some 1 := by decide +kernel
theorem hdK_J40_leftOf : yJ40_leftOf.cls = "java/util/TreeMap" ∧ yJ40_leftOf.cls ≠ "java/lang/invoke/MethodHandle" ∧ yJ40_leftOf.cls ≠ "java/lang/invoke/VarHandle" ∧ (parseMethodDescriptor yJ40_leftOf.desc).map (fun d => d.parameters.length) = some 1 := by decide +kernel
theorem hdK_J40_parentOf : yJ40_parentOf.cls = "java/util/TreeMap" ∧ yJ40_parentOf.cls ≠ "java/lang/invoke/MethodHandle" ∧ yJ40_parentOf.cls ≠ "java/lang/invoke/VarHandle" ∧ (parseMethodDescriptor yJ40_parentOf.desc).map (fun d => d.parameters.length) = some 1 := by decide +kernel
theorem hdK_J40_rightOf : yJ40_rightOf.cls = "java/util/TreeMap" ∧ yJ40_rightOf.cls ≠ "java/lang/invoke/MethodHandle" ∧ yJ40_rightOf.cls ≠ "java/lang/invoke/VarHandle" ∧ (parseMethodDescriptor yJ40_rightOf.desc).map (fun d => d.parameters.length) = some 1 := by decide +kernel
theorem hdK_J40_rotateLeft : yJ40_rotateLeft.cls = "java/util/TreeMap" ∧ yJ40_rotateLeft.cls ≠ "java/lang/invoke/MethodHandle" ∧ yJ40_rotateLeft.cls ≠ "java/lang/invoke/VarHandle" ∧ (parseMethodDescriptor yJ40_rotateLeft.desc).map (fun d => d.parameters.length) = some 1 := by decide +kernel
theorem hdK_J40_rotateRight : yJ40_rotateRight.cls = "java/util/TreeMap" ∧ yJ40_rotateRight.cls ≠ "java/lang/invoke/MethodHandle" ∧ yJ40_rotateRight.cls ≠ "java/lang/invoke/VarHandle" ∧ (parseMethodDescriptor yJ40_rotateRight.desc).map (fun d => d.parameters.length) = some 1 := by decide +kernel
theorem hdK_J40_setColor : yJ40_setColor.cls = "java/util/TreeMap" ∧ yJ40_setColor.cls ≠ "java/lang/invoke/MethodHandle" ∧ yJ40_setColor.cls ≠ "java/lang/invoke/VarHandle" ∧ (parseMethodDescriptor yJ40_setColor.desc).map (fun d => d.parameters.length) = some 2 := by decide +kernel
def w_J40_fixAfterInsertion_258 (g : gT) (F : Nat) (a0 : Nat) (Q : hM → Prop) (M : hM) : Prop :=
  gF M (some a0) 30 3 fun x1 => pV M x1 31 5 (.int (1 : Int32)) fun M2 => Q M2
def w_J40_fixAfterInsertion_255 (g : gT) (F : Nat) (a0 : Nat) (Q : hM → Prop) (K5 : (Option Nat) → hM → Prop) (v1 : Option Nat) (M : hM) : Prop :=
  K5 v1 M
def w_J40_fixAfterInsertion_225 (g : gT) (F : Nat) (a0 : Nat) (Q : hM → Prop) (K5 : (Option Nat) → hM → Prop) (v1 : Option Nat) (M : hM) : Prop :=
  w_J40_parentOf g F v1 M (fun x2 M1 => w_J40_setColor g F x2 (1 : Int32) M1 (fun M3 => w_J40_parentOf g F v1 M3 (fun x5 M4 => w_J40_parentOf g F x5 M4 (fun x7 M6 => w_J40_setColor g F x7 (0 : Int32) M6 (fun M8 => w_J40_parentOf g F v1 M8 (fun x10 M9 => w_J40_parentOf g F x10 M9 (fun x12 M11 => (isC M11 a0 30 ∧ w_J40_rotateLeft g F a0 x12 M11 (fun M13 => w_J40_fixAfterInsertion_255 g F a0 Q K5 v1 M13)))))))))
def w_J40_fixAfterInsertion_148 (g : gT) (F : Nat) (a0 : Nat) (Q : hM → Prop) (K5 : (Option Nat) → hM → Prop) (v1 : Option Nat) (M : hM) : Prop :=
  K5 v1 M
def w_J40_fixAfterInsertion_118 (g : gT) (F : Nat) (a0 : Nat) (Q : hM → Prop) (K5 : (Option Nat) → hM → Prop) (v1 : Option Nat) (M : hM) : Prop :=
  w_J40_parentOf g F v1 M (fun x2 M1 => w_J40_setColor g F x2 (1 : Int32) M1 (fun M3 => w_J40_parentOf g F v1 M3 (fun x5 M4 => w_J40_parentOf g F x5 M4 (fun x7 M6 => w_J40_setColor g F x7 (0 : Int32) M6 (fun M8 => w_J40_parentOf g F v1 M8 (fun x10 M9 => w_J40_parentOf g F x10 M9 (fun x12 M11 => (isC M11 a0 30 ∧ w_J40_rotateRight g F a0 x12 M11 (fun M13 => w_J40_fixAfterInsertion_148 g F a0 Q K5 v1 M13)))))))))
def w_J40_fixAfterInsertion_5 (g : gT) (F : Nat) (a0 : Nat) (Q : hM → Prop) : Nat → (Option Nat) → hM → Prop
  | 0, _, _ => False
  | n + 1, v1, M => ((v1 = none → w_J40_fixAfterInsertion_258 g F a0 Q M) ∧ (¬ v1 = none → gF M (some a0) 30 3 fun x1 => ((v1 = x1 → w_J40_fixAfterInsertion_258 g F a0 Q M) ∧ (¬ v1 = x1 → gF M v1 31 4 fun x2 => gI M x2 31 5 fun x3 => ((¬ x3 = 0 → w_J40_fixAfterInsertion_258 g F a0 Q M) ∧ (x3 = 0 → w_J40_parentOf g F v1 M (fun x5 M4 => w_J40_parentOf g F v1 M4 (fun x7 M6 => w_J40_parentOf g F x7 M6 (fun x9 M8 => w_J40_leftOf g F x9 M8 (fun x11 M10 => ((¬ x5 = x11 → w_J40_parentOf g F v1 M10 (fun x13 M12 => w_J40_parentOf g F x13 M12 (fun x15 M14 => w_J40_leftOf g F x15 M14 (fun x17 M16 => w_J40_colorOf g F x17 M16 (fun x19 M18 => ((¬ x19 = 0 → w_J40_parentOf g F v1 M18 (fun x21 M20 => w_J40_leftOf g F x21 M20 (fun x23 M22 => ((¬ v1 = x23 → w_J40_fixAfterInsertion_225 g F a0 Q (fun v1 M => w_J40_fixAfterInsertion_5 g F a0 Q n v1 M) v1 M22) ∧ (v1 = x23 → w_J40_parentOf g F v1 M22 (fun x25 M24 => (isC M24 a0 30 ∧ w_J40_rotateRight g F a0 x25 M24 (fun M26 => w_J40_fixAfterInsertion_225 g F a0 Q (fun v1 M => w_J40_fixAfterInsertion_5 g F a0 Q n v1 M) x25 M26)))))))) ∧ (x19 = 0 → w_J40_parentOf g F v1 M18 (fun x28 M27 => w_J40_setColor g F x28 (1 : Int32) M27 (fun M29 => w_J40_setColor g F x17 (1 : Int32) M29 (fun M30 => w_J40_parentOf g F v1 M30 (fun x32 M31 => w_J40_parentOf g F x32 M31 (fun x34 M33 => w_J40_setColor g F x34 (0 : Int32) M33 (fun M35 => w_J40_parentOf g F v1 M35 (fun x37 M36 => w_J40_parentOf g F x37 M36 (fun x39 M38 => w_J40_fixAfterInsertion_255 g F a0 Q (fun v1 M => w_J40_fixAfterInsertion_5 g F a0 Q n v1 M) x39 M38))))))))))))))) ∧ (x5 = x11 → w_J40_parentOf g F v1 M10 (fun x41 M40 => w_J40_parentOf g F x41 M40 (fun x43 M42 => w_J40_rightOf g F x43 M42 (fun x45 M44 => w_J40_colorOf g F x45 M44 (fun x47 M46 => ((¬ x47 = 0 → w_J40_parentOf g F v1 M46 (fun x49 M48 => w_J40_rightOf g F x49 M48 (fun x51 M50 => ((¬ v1 = x51 → w_J40_fixAfterInsertion_118 g F a0 Q (fun v1 M => w_J40_fixAfterInsertion_5 g F a0 Q n v1 M) v1 M50) ∧ (v1 = x51 → w_J40_parentOf g F v1 M50 (fun x53 M52 => (isC M52 a0 30 ∧ w_J40_rotateLeft g F a0 x53 M52 (fun M54 => w_J40_fixAfterInsertion_118 g F a0 Q (fun v1 M => w_J40_fixAfterInsertion_5 g F a0 Q n v1 M) x53 M54)))))))) ∧ (x47 = 0 → w_J40_parentOf g F v1 M46 (fun x56 M55 => w_J40_setColor g F x56 (1 : Int32) M55 (fun M57 => w_J40_setColor g F x45 (1 : Int32) M57 (fun M58 => w_J40_parentOf g F v1 M58 (fun x60 M59 => w_J40_parentOf g F x60 M59 (fun x62 M61 => w_J40_setColor g F x62 (0 : Int32) M61 (fun M63 => w_J40_parentOf g F v1 M63 (fun x65 M64 => w_J40_parentOf g F x65 M64 (fun x67 M66 => w_J40_fixAfterInsertion_148 g F a0 Q (fun v1 M => w_J40_fixAfterInsertion_5 g F a0 Q n v1 M) x67 M66))))))))))))))))))))))))))
def w_J40_fixAfterInsertion (g : gT) (F : Nat) (a0 : Nat) (p1 : Option Nat) (M : hM) (Q : hM → Prop) : Prop :=
  pV M p1 31 5 (.int (0 : Int32)) fun M1 => w_J40_fixAfterInsertion_5 g F a0 Q F p1 M1
theorem g_J40_fixAfterInsertion_258 {k : kT} {F : Nat} {a0 : Nat} {Q : hM → Prop} (hJ : JK (kl k) (kg k)) (hC : CX k 3 cJ40_fixAfterInsertion RJ40 none 2 34) (hQ : isQ k (PU Q)) (hin : (kt k).name = "fixAfterInsertion") : ∀  (M : hM), w_J40_fixAfterInsertion_258 (kg k) F a0 Q  M → GW k 3 M 258 [some (va_rf (some a0)), none, none] [] := by
  intro  M hw
  refine G_aload_n (pc := 258) (i := 0) hC dJ40_fixAfterInsertion_258 rfl rfl ?_
  refine G_getF (pc := 259) (ci := 30) (C := RJ40) (T := TJ40) (N := 9) (f := 3) hC rfl in_J40 (Nat.le_of_ble_eq_true rfl) q2218 (fun _ h => h) dJ40_fixAfterInsertion_259 hw (fun x1 hw => ?_)
  refine G_iconst (pc := 262) (v := 1) hC dJ40_fixAfterInsertion_262 (by decide) ?_
  refine G_put (pc := 263) (ci := 31) (C := RJ41) (T := TJ41) (N := 6) (f := 5) tyJ41 hC rfl in_J41 tyJ41_ok nmJ41 (Nat.le_of_ble_eq_true rfl) q2293 (fun _ h => h) rfl rfl rfl dJ40_fixAfterInsertion_263 hw (fun M2 hw => ?_)
  exact G_ret (pc := 266) hC hQ dJ40_fixAfterInsertion_266 hw
theorem g_J40_fixAfterInsertion_255 {k : kT} {F : Nat} {a0 : Nat} {Q : hM → Prop} {K5 : (Option Nat) → hM → Prop} (hJ : JK (kl k) (kg k)) (hC : CX k 3 cJ40_fixAfterInsertion RJ40 none 2 34) (hQ : isQ k (PU Q)) (hin : (kt k).name = "fixAfterInsertion") (hK5 : ∀ (v1 : Option Nat) (M : hM), K5 v1 M → GW k 3 M 5 [some (va_rf (some a0)), some (va_rf v1), none] []) : ∀ (v1 : Option Nat) (M : hM), w_J40_fixAfterInsertion_255 (kg k) F a0 Q K5 v1 M → GW k 3 M 255 [some (va_rf (some a0)), some (va_rf v1), none] [] := by
  intro v1 M hw
  refine G_goto (pc := 255) (tgt := 5) hC dJ40_fixAfterInsertion_255 (by decide) ?_
  exact hK5 v1 M hw
theorem g_J40_fixAfterInsertion_225 {k : kT} {F : Nat} {a0 : Nat} {Q : hM → Prop} {K5 : (Option Nat) → hM → Prop} (hJ : JK (kl k) (kg k)) (hC : CX k 3 cJ40_fixAfterInsertion RJ40 none 2 34) (hQ : isQ k (PU Q)) (hin : (kt k).name = "fixAfterInsertion") (hK5 : ∀ (v1 : Option Nat) (M : hM), K5 v1 M → GW k 3 M 5 [some (va_rf (some a0)), some (va_rf v1), none] []) : ∀ (v1 : Option Nat) (M : hM), w_J40_fixAfterInsertion_225 (kg k) F a0 Q K5 v1 M → GW k 3 M 225 [some (va_rf (some a0)), some (va_rf v1), none] [] := by
  intro v1 M hw
  refine G_aload_n (pc := 225) (i := 1) hC dJ40_fixAfterInsertion_225 rfl rfl ?_
  refine G_callS (pc := 226) (n := 1) (As := [va_rf v1]) (rest := []) hC (m_J40_parentOf hJ hw) (lw_S q2315 q2316 q136 q2317) hdK_J40_parentOf.2 (by decide) rfl rfl (st_c cat_e (Nat.le_of_ble_eq_true rfl)) dJ40_fixAfterInsertion_226 (kRf fun x2 M1 hw => ?_)
  refine G_iconst (pc := 229) (v := 1) hC dJ40_fixAfterInsertion_229 (by decide) ?_
  refine G_callS (pc := 230) (n := 2) (As := [va_rf x2, .int (1 : Int32)]) (rest := []) hC (m_J40_setColor hJ hw) (lw_S q2327 q2328 q136 q2329) hdK_J40_setColor.2 (by decide) rfl rfl (st_c cat_e (Nat.le_of_ble_eq_true rfl)) dJ40_fixAfterInsertion_230 (kU fun M3 hw => ?_)
  refine G_aload_n (pc := 233) (i := 1) hC dJ40_fixAfterInsertion_233 rfl rfl ?_
  refine G_callS (pc := 234) (n := 1) (As := [va_rf v1]) (rest := []) hC (m_J40_parentOf hJ hw) (lw_S q2315 q2316 q136 q2317) hdK_J40_parentOf.2 (by decide) rfl rfl (st_c cat_e (Nat.le_of_ble_eq_true rfl)) dJ40_fixAfterInsertion_234 (kRf fun x5 M4 hw => ?_)
  refine G_callS (pc := 237) (n := 1) (As := [va_rf x5]) (rest := []) hC (m_J40_parentOf hJ hw) (lw_S q2315 q2316 q136 q2317) hdK_J40_parentOf.2 (by decide) rfl rfl (st_c cat_e (Nat.le_of_ble_eq_true rfl)) dJ40_fixAfterInsertion_237 (kRf fun x7 M6 hw => ?_)
  refine G_iconst (pc := 240) (v := 0) hC dJ40_fixAfterInsertion_240 (by decide) ?_
  refine G_callS (pc := 241) (n := 2) (As := [va_rf x7, .int (0 : Int32)]) (rest := []) hC (m_J40_setColor hJ hw) (lw_S q2327 q2328 q136 q2329) hdK_J40_setColor.2 (by decide) rfl rfl (st_c cat_e (Nat.le_of_ble_eq_true rfl)) dJ40_fixAfterInsertion_241 (kU fun M8 hw => ?_)
  refine G_aload_n (pc := 244) (i := 0) hC dJ40_fixAfterInsertion_244 rfl rfl ?_
  refine G_aload_n (pc := 245) (i := 1) hC dJ40_fixAfterInsertion_245 rfl rfl ?_
  refine G_callS (pc := 246) (n := 1) (As := [va_rf v1]) (rest := [va_rf (some a0)]) hC (m_J40_parentOf hJ hw) (lw_S q2315 q2316 q136 q2317) hdK_J40_parentOf.2 (by decide) rfl rfl (st_c (cat_r cat_e) (Nat.le_of_ble_eq_true rfl)) dJ40_fixAfterInsertion_246 (kRf fun x10 M9 hw => ?_)
  refine G_callS (pc := 249) (n := 1) (As := [va_rf x10]) (rest := [va_rf (some a0)]) hC (m_J40_parentOf hJ hw) (lw_S q2315 q2316 q136 q2317) hdK_J40_parentOf.2 (by decide) rfl rfl (st_c (cat_r cat_e) (Nat.le_of_ble_eq_true rfl)) dJ40_fixAfterInsertion_249 (kRf fun x12 M11 hw => ?_)
  obtain ⟨hb, hw⟩ := hw
  refine G_callV (pc := 252) (n := 1) (C := "java/util/TreeMap") (b := a0) (As := [va_rf x12]) (rest := []) hC (m_J40_rotateLeft hJ hw) (lw_V q2330 q2332 qs33 q136 q2333) hdK_J40_rotateLeft (by decide) (rcv (C := RJ40) (T := TJ40) (N := 9) hC hb rfl) rfl rfl (st_c cat_e (Nat.le_of_ble_eq_true rfl)) dJ40_fixAfterInsertion_252 (kU fun M13 hw => ?_)
  exact g_J40_fixAfterInsertion_255 hJ hC hQ hin hK5  v1 M13 hw
theorem g_J40_fixAfterInsertion_148 {k : kT} {F : Nat} {a0 : Nat} {Q : hM → Prop} {K5 : (Option Nat) → hM → Prop} (hJ : JK (kl k) (kg k)) (hC : CX k 3 cJ40_fixAfterInsertion RJ40 none 2 34) (hQ : isQ k (PU Q)) (hin : (kt k).name = "fixAfterInsertion") (hK5 : ∀ (v1 : Option Nat) (M : hM), K5 v1 M → GW k 3 M 5 [some (va_rf (some a0)), some (va_rf v1), none] []) : ∀ (v1 : Option Nat) (M : hM), w_J40_fixAfterInsertion_148 (kg k) F a0 Q K5 v1 M → GW k 3 M 148 [some (va_rf (some a0)), some (va_rf v1), none] [] := by
  intro v1 M hw
  refine G_goto (pc := 148) (tgt := 5) hC dJ40_fixAfterInsertion_148 (by decide) ?_
  exact hK5 v1 M hw
theorem g_J40_fixAfterInsertion_118 {k : kT} {F : Nat} {a0 : Nat} {Q : hM → Prop} {K5 : (Option Nat) → hM → Prop} (hJ : JK (kl k) (kg k)) (hC : CX k 3 cJ40_fixAfterInsertion RJ40 none 2 34) (hQ : isQ k (PU Q)) (hin : (kt k).name = "fixAfterInsertion") (hK5 : ∀ (v1 : Option Nat) (M : hM), K5 v1 M → GW k 3 M 5 [some (va_rf (some a0)), some (va_rf v1), none] []) : ∀ (v1 : Option Nat) (M : hM), w_J40_fixAfterInsertion_118 (kg k) F a0 Q K5 v1 M → GW k 3 M 118 [some (va_rf (some a0)), some (va_rf v1), none] [] := by
  intro v1 M hw
  refine G_aload_n (pc := 118) (i := 1) hC dJ40_fixAfterInsertion_118 rfl rfl ?_
  refine G_callS (pc := 119) (n := 1) (As := [va_rf v1]) (rest := []) hC (m_J40_parentOf hJ hw) (lw_S q2315 q2316 q136 q2317) hdK_J40_parentOf.2 (by decide) rfl rfl (st_c cat_e (Nat.le_of_ble_eq_true rfl)) dJ40_fixAfterInsertion_119 (kRf fun x2 M1 hw => ?_)
  refine G_iconst (pc := 122) (v := 1) hC dJ40_fixAfterInsertion_122 (by decide) ?_
  refine G_callS (pc := 123) (n := 2) (As := [va_rf x2, .int (1 : Int32)]) (rest := []) hC (m_J40_setColor hJ hw) (lw_S q2327 q2328 q136 q2329) hdK_J40_setColor.2 (by decide) rfl rfl (st_c cat_e (Nat.le_of_ble_eq_true rfl)) dJ40_fixAfterInsertion_123 (kU fun M3 hw => ?_)
  refine G_aload_n (pc := 126) (i := 1) hC dJ40_fixAfterInsertion_126 rfl rfl ?_
  refine G_callS (pc := 127) (n := 1) (As := [va_rf v1]) (rest := []) hC (m_J40_parentOf hJ hw) (lw_S q2315 q2316 q136 q2317) hdK_J40_parentOf.2 (by decide) rfl rfl (st_c cat_e (Nat.le_of_ble_eq_true rfl)) dJ40_fixAfterInsertion_127 (kRf fun x5 M4 hw => ?_)
  refine G_callS (pc := 130) (n := 1) (As := [va_rf x5]) (rest := []) hC (m_J40_parentOf hJ hw) (lw_S q2315 q2316 q136 q2317) hdK_J40_parentOf.2 (by decide) rfl rfl (st_c cat_e (Nat.le_of_ble_eq_true rfl)) dJ40_fixAfterInsertion_130 (kRf fun x7 M6 hw => ?_)
  refine G_iconst (pc := 133) (v := 0) hC dJ40_fixAfterInsertion_133 (by decide) ?_
  refine G_callS (pc := 134) (n := 2) (As := [va_rf x7, .int (0 : Int32)]) (rest := []) hC (m_J40_setColor hJ hw) (lw_S q2327 q2328 q136 q2329) hdK_J40_setColor.2 (by decide) rfl rfl (st_c cat_e (Nat.le_of_ble_eq_true rfl)) dJ40_fixAfterInsertion_134 (kU fun M8 hw => ?_)
  refine G_aload_n (pc := 137) (i := 0) hC dJ40_fixAfterInsertion_137 rfl rfl ?_
  refine G_aload_n (pc := 138) (i := 1) hC dJ40_fixAfterInsertion_138 rfl rfl ?_
  refine G_callS (pc := 139) (n := 1) (As := [va_rf v1]) (rest := [va_rf (some a0)]) hC (m_J40_parentOf hJ hw) (lw_S q2315 q2316 q136 q2317) hdK_J40_parentOf.2 (by decide) rfl rfl (st_c (cat_r cat_e) (Nat.le_of_ble_eq_true rfl)) dJ40_fixAfterInsertion_139 (kRf fun x10 M9 hw => ?_)
  refine G_callS (pc := 142) (n := 1) (As := [va_rf x10]) (rest := [va_rf (some a0)]) hC (m_J40_parentOf hJ hw) (lw_S q2315 q2316 q136 q2317) hdK_J40_parentOf.2 (by decide) rfl rfl (st_c (cat_r cat_e) (Nat.le_of_ble_eq_true rfl)) dJ40_fixAfterInsertion_142 (kRf fun x12 M11 hw => ?_)
  obtain ⟨hb, hw⟩ := hw
  refine G_callV (pc := 145) (n := 1) (C := "java/util/TreeMap") (b := a0) (As := [va_rf x12]) (rest := []) hC (m_J40_rotateRight hJ hw) (lw_V q2334 q2336 qs34 q136 q2337) hdK_J40_rotateRight (by decide) (rcv (C := RJ40) (T := TJ40) (N := 9) hC hb rfl) rfl rfl (st_c cat_e (Nat.le_of_ble_eq_true rfl)) dJ40_fixAfterInsertion_145 (kU fun M13 hw => ?_)
  exact g_J40_fixAfterInsertion_148 hJ hC hQ hin hK5  v1 M13 hw
theorem g_J40_fixAfterInsertion_5 {k : kT} {F : Nat} {a0 : Nat} {Q : hM → Prop} (hJ : JK (kl k) (kg k)) (hC : CX k 3 cJ40_fixAfterInsertion RJ40 none 2 34) (hQ : isQ k (PU Q)) (hin : (kt k).name = "fixAfterInsertion") : ∀ (n : Nat) (v1 : Option Nat) (M : hM), w_J40_fixAfterInsertion_5 (kg k) F a0 Q n v1 M → GW k 3 M 5 [some (va_rf (some a0)), some (va_rf v1), none] [] := by
  intro n
  induction n with
  | zero =>
    intro v1 M hw
    exact hw.elim
  | succ n ih =>
    intro v1 M hw
    refine G_aload_n (pc := 5) (i := 1) hC dJ40_fixAfterInsertion_5 rfl rfl ?_
    refine G_ifnull (pc := 6) (tgt := 258) hC dJ40_fixAfterInsertion_6 (by decide) (fun hc => ?_) (fun hc => ?_)
    · replace hw := hw.1 hc
      refine G_loc (lv' := [some (va_rf (some a0)), none, none]) ⟨Or.inr rfl, Or.inl rfl, Or.inr rfl, trivial⟩ ?_
      exact g_J40_fixAfterInsertion_258 hJ hC hQ hin   M hw
    · replace hw := hw.2 hc
      refine G_aload_n (pc := 9) (i := 1) hC dJ40_fixAfterInsertion_9 rfl rfl ?_
      refine G_aload_n (pc := 10) (i := 0) hC dJ40_fixAfterInsertion_10 rfl rfl ?_
      refine G_getF (pc := 11) (ci := 30) (C := RJ40) (T := TJ40) (N := 9) (f := 3) hC rfl in_J40 (Nat.le_of_ble_eq_true rfl) q2218 (fun _ h => h) dJ40_fixAfterInsertion_11 hw (fun x1 hw => ?_)
      refine G_acmp_eq (pc := 14) (tgt := 258) hC dJ40_fixAfterInsertion_14 (by decide) (fun hc => ?_) (fun hc => ?_)
      · replace hw := hw.1 hc
        refine G_loc (lv' := [some (va_rf (some a0)), none, none]) ⟨Or.inr rfl, Or.inl rfl, Or.inr rfl, trivial⟩ ?_
        exact g_J40_fixAfterInsertion_258 hJ hC hQ hin   M hw
      · replace hw := hw.2 hc
        refine G_aload_n (pc := 17) (i := 1) hC dJ40_fixAfterInsertion_17 rfl rfl ?_
        refine G_getF (pc := 18) (ci := 31) (C := RJ41) (T := TJ41) (N := 6) (f := 4) hC rfl in_J41 (Nat.le_of_ble_eq_true rfl) q2291 (fun _ h => h) dJ40_fixAfterInsertion_18 hw (fun x2 hw => ?_)
        refine G_getI (pc := 21) (ci := 31) (C := RJ41) (T := TJ41) (N := 6) (f := 5) hC rfl in_J41 (Nat.le_of_ble_eq_true rfl) q2293 (fun _ h => h) dJ40_fixAfterInsertion_21 hw (fun x3 hw => ?_)
        refine G_if_ne (pc := 24) (tgt := 258) hC dJ40_fixAfterInsertion_24 (by decide) (fun hc => ?_) (fun hc => ?_)
        · replace hw := hw.1 hc
          refine G_loc (lv' := [some (va_rf (some a0)), none, none]) ⟨Or.inr rfl, Or.inl rfl, Or.inr rfl, trivial⟩ ?_
          exact g_J40_fixAfterInsertion_258 hJ hC hQ hin   M hw
        · replace hw := hw.2 hc
          refine G_aload_n (pc := 27) (i := 1) hC dJ40_fixAfterInsertion_27 rfl rfl ?_
          refine G_callS (pc := 28) (n := 1) (As := [va_rf v1]) (rest := []) hC (m_J40_parentOf hJ hw) (lw_S q2315 q2316 q136 q2317) hdK_J40_parentOf.2 (by decide) rfl rfl (st_c cat_e (Nat.le_of_ble_eq_true rfl)) dJ40_fixAfterInsertion_28 (kRf fun x5 M4 hw => ?_)
          refine G_aload_n (pc := 31) (i := 1) hC dJ40_fixAfterInsertion_31 rfl rfl ?_
          refine G_callS (pc := 32) (n := 1) (As := [va_rf v1]) (rest := [va_rf x5]) hC (m_J40_parentOf hJ hw) (lw_S q2315 q2316 q136 q2317) hdK_J40_parentOf.2 (by decide) rfl rfl (st_c (cat_r cat_e) (Nat.le_of_ble_eq_true rfl)) dJ40_fixAfterInsertion_32 (kRf fun x7 M6 hw => ?_)
          refine G_callS (pc := 35) (n := 1) (As := [va_rf x7]) (rest := [va_rf x5]) hC (m_J40_parentOf hJ hw) (lw_S q2315 q2316 q136 q2317) hdK_J40_parentOf.2 (by decide) rfl rfl (st_c (cat_r cat_e) (Nat.le_of_ble_eq_true rfl)) dJ40_fixAfterInsertion_35 (kRf fun x9 M8 hw => ?_)
          refine G_callS (pc := 38) (n := 1) (As := [va_rf x9]) (rest := [va_rf x5]) hC (m_J40_leftOf hJ hw) (lw_S q2318 q2319 q136 q2320) hdK_J40_leftOf.2 (by decide) rfl rfl (st_c (cat_r cat_e) (Nat.le_of_ble_eq_true rfl)) dJ40_fixAfterInsertion_38 (kRf fun x11 M10 hw => ?_)
          refine G_acmp_ne (pc := 41) (tgt := 151) hC dJ40_fixAfterInsertion_41 (by decide) (fun hc => ?_) (fun hc => ?_)
          · replace hw := hw.1 hc
            refine G_aload_n (pc := 151) (i := 1) hC dJ40_fixAfterInsertion_151 rfl rfl ?_
            refine G_callS (pc := 152) (n := 1) (As := [va_rf v1]) (rest := []) hC (m_J40_parentOf hJ hw) (lw_S q2315 q2316 q136 q2317) hdK_J40_parentOf.2 (by decide) rfl rfl (st_c cat_e (Nat.le_of_ble_eq_true rfl)) dJ40_fixAfterInsertion_152 (kRf fun x13 M12 hw => ?_)
            refine G_callS (pc := 155) (n := 1) (As := [va_rf x13]) (rest := []) hC (m_J40_parentOf hJ hw) (lw_S q2315 q2316 q136 q2317) hdK_J40_parentOf.2 (by decide) rfl rfl (st_c cat_e (Nat.le_of_ble_eq_true rfl)) dJ40_fixAfterInsertion_155 (kRf fun x15 M14 hw => ?_)
            refine G_callS (pc := 158) (n := 1) (As := [va_rf x15]) (rest := []) hC (m_J40_leftOf hJ hw) (lw_S q2318 q2319 q136 q2320) hdK_J40_leftOf.2 (by decide) rfl rfl (st_c cat_e (Nat.le_of_ble_eq_true rfl)) dJ40_fixAfterInsertion_158 (kRf fun x17 M16 hw => ?_)
            refine G_astore_n (pc := 161) (i := 2) (lw := [some (va_rf (some a0)), some (va_rf v1), some (va_rf x17)]) hC dJ40_fixAfterInsertion_161 rfl (Nat.le_of_ble_eq_true rfl) rfl ?_
            refine G_aload_n (pc := 162) (i := 2) hC dJ40_fixAfterInsertion_162 rfl rfl ?_
            refine G_callS (pc := 163) (n := 1) (As := [va_rf x17]) (rest := []) hC (m_J40_colorOf hJ hw) (lw_S q2324 q2325 q136 q2326) hdK_J40_colorOf.2 (by decide) rfl rfl (st_c cat_e (Nat.le_of_ble_eq_true rfl)) dJ40_fixAfterInsertion_163 (kI fun x19 M18 hw => ?_)
            refine G_if_ne (pc := 166) (tgt := 204) hC dJ40_fixAfterInsertion_166 (by decide) (fun hc => ?_) (fun hc => ?_)
            · replace hw := hw.1 hc
              refine G_aload_n (pc := 204) (i := 1) hC dJ40_fixAfterInsertion_204 rfl rfl ?_
              refine G_aload_n (pc := 205) (i := 1) hC dJ40_fixAfterInsertion_205 rfl rfl ?_
              refine G_callS (pc := 206) (n := 1) (As := [va_rf v1]) (rest := [va_rf v1]) hC (m_J40_parentOf hJ hw) (lw_S q2315 q2316 q136 q2317) hdK_J40_parentOf.2 (by decide) rfl rfl (st_c (cat_r cat_e) (Nat.le_of_ble_eq_true rfl)) dJ40_fixAfterInsertion_206 (kRf fun x21 M20 hw => ?_)
              refine G_callS (pc := 209) (n := 1) (As := [va_rf x21]) (rest := [va_rf v1]) hC (m_J40_leftOf hJ hw) (lw_S q2318 q2319 q136 q2320) hdK_J40_leftOf.2 (by decide) rfl rfl (st_c (cat_r cat_e) (Nat.le_of_ble_eq_true rfl)) dJ40_fixAfterInsertion_209 (kRf fun x23 M22 hw => ?_)
              refine G_acmp_ne (pc := 212) (tgt := 225) hC dJ40_fixAfterInsertion_212 (by decide) (fun hc => ?_) (fun hc => ?_)
              · replace hw := hw.1 hc
                refine G_loc (lv' := [some (va_rf (some a0)), some (va_rf v1), none]) ⟨Or.inr rfl, Or.inr rfl, Or.inl rfl, trivial⟩ ?_
                exact g_J40_fixAfterInsertion_225 hJ hC hQ hin ih  v1 M22 hw
              · replace hw := hw.2 hc
                refine G_aload_n (pc := 215) (i := 1) hC dJ40_fixAfterInsertion_215 rfl rfl ?_
                refine G_callS (pc := 216) (n := 1) (As := [va_rf v1]) (rest := []) hC (m_J40_parentOf hJ hw) (lw_S q2315 q2316 q136 q2317) hdK_J40_parentOf.2 (by decide) rfl rfl (st_c cat_e (Nat.le_of_ble_eq_true rfl)) dJ40_fixAfterInsertion_216 (kRf fun x25 M24 hw => ?_)
                refine G_astore_n (pc := 219) (i := 1) (lw := [some (va_rf (some a0)), some (va_rf x25), some (va_rf x17)]) hC dJ40_fixAfterInsertion_219 rfl (Nat.le_of_ble_eq_true rfl) rfl ?_
                refine G_aload_n (pc := 220) (i := 0) hC dJ40_fixAfterInsertion_220 rfl rfl ?_
                refine G_aload_n (pc := 221) (i := 1) hC dJ40_fixAfterInsertion_221 rfl rfl ?_
                obtain ⟨hb, hw⟩ := hw
                refine G_callV (pc := 222) (n := 1) (C := "java/util/TreeMap") (b := a0) (As := [va_rf x25]) (rest := []) hC (m_J40_rotateRight hJ hw) (lw_V q2334 q2336 qs34 q136 q2337) hdK_J40_rotateRight (by decide) (rcv (C := RJ40) (T := TJ40) (N := 9) hC hb rfl) rfl rfl (st_c cat_e (Nat.le_of_ble_eq_true rfl)) dJ40_fixAfterInsertion_222 (kU fun M26 hw => ?_)
                refine G_loc (lv' := [some (va_rf (some a0)), some (va_rf x25), none]) ⟨Or.inr rfl, Or.inr rfl, Or.inl rfl, trivial⟩ ?_
                exact g_J40_fixAfterInsertion_225 hJ hC hQ hin ih  x25 M26 hw
            · replace hw := hw.2 hc
              refine G_aload_n (pc := 169) (i := 1) hC dJ40_fixAfterInsertion_169 rfl rfl ?_
              refine G_callS (pc := 170) (n := 1) (As := [va_rf v1]) (rest := []) hC (m_J40_parentOf hJ hw) (lw_S q2315 q2316 q136 q2317) hdK_J40_parentOf.2 (by decide) rfl rfl (st_c cat_e (Nat.le_of_ble_eq_true rfl)) dJ40_fixAfterInsertion_170 (kRf fun x28 M27 hw => ?_)
              refine G_iconst (pc := 173) (v := 1) hC dJ40_fixAfterInsertion_173 (by decide) ?_
              refine G_callS (pc := 174) (n := 2) (As := [va_rf x28, .int (1 : Int32)]) (rest := []) hC (m_J40_setColor hJ hw) (lw_S q2327 q2328 q136 q2329) hdK_J40_setColor.2 (by decide) rfl rfl (st_c cat_e (Nat.le_of_ble_eq_true rfl)) dJ40_fixAfterInsertion_174 (kU fun M29 hw => ?_)
              refine G_aload_n (pc := 177) (i := 2) hC dJ40_fixAfterInsertion_177 rfl rfl ?_
              refine G_iconst (pc := 178) (v := 1) hC dJ40_fixAfterInsertion_178 (by decide) ?_
              refine G_callS (pc := 179) (n := 2) (As := [va_rf x17, .int (1 : Int32)]) (rest := []) hC (m_J40_setColor hJ hw) (lw_S q2327 q2328 q136 q2329) hdK_J40_setColor.2 (by decide) rfl rfl (st_c cat_e (Nat.le_of_ble_eq_true rfl)) dJ40_fixAfterInsertion_179 (kU fun M30 hw => ?_)
              refine G_aload_n (pc := 182) (i := 1) hC dJ40_fixAfterInsertion_182 rfl rfl ?_
              refine G_callS (pc := 183) (n := 1) (As := [va_rf v1]) (rest := []) hC (m_J40_parentOf hJ hw) (lw_S q2315 q2316 q136 q2317) hdK_J40_parentOf.2 (by decide) rfl rfl (st_c cat_e (Nat.le_of_ble_eq_true rfl)) dJ40_fixAfterInsertion_183 (kRf fun x32 M31 hw => ?_)
              refine G_callS (pc := 186) (n := 1) (As := [va_rf x32]) (rest := []) hC (m_J40_parentOf hJ hw) (lw_S q2315 q2316 q136 q2317) hdK_J40_parentOf.2 (by decide) rfl rfl (st_c cat_e (Nat.le_of_ble_eq_true rfl)) dJ40_fixAfterInsertion_186 (kRf fun x34 M33 hw => ?_)
              refine G_iconst (pc := 189) (v := 0) hC dJ40_fixAfterInsertion_189 (by decide) ?_
              refine G_callS (pc := 190) (n := 2) (As := [va_rf x34, .int (0 : Int32)]) (rest := []) hC (m_J40_setColor hJ hw) (lw_S q2327 q2328 q136 q2329) hdK_J40_setColor.2 (by decide) rfl rfl (st_c cat_e (Nat.le_of_ble_eq_true rfl)) dJ40_fixAfterInsertion_190 (kU fun M35 hw => ?_)
              refine G_aload_n (pc := 193) (i := 1) hC dJ40_fixAfterInsertion_193 rfl rfl ?_
              refine G_callS (pc := 194) (n := 1) (As := [va_rf v1]) (rest := []) hC (m_J40_parentOf hJ hw) (lw_S q2315 q2316 q136 q2317) hdK_J40_parentOf.2 (by decide) rfl rfl (st_c cat_e (Nat.le_of_ble_eq_true rfl)) dJ40_fixAfterInsertion_194 (kRf fun x37 M36 hw => ?_)
              refine G_callS (pc := 197) (n := 1) (As := [va_rf x37]) (rest := []) hC (m_J40_parentOf hJ hw) (lw_S q2315 q2316 q136 q2317) hdK_J40_parentOf.2 (by decide) rfl rfl (st_c cat_e (Nat.le_of_ble_eq_true rfl)) dJ40_fixAfterInsertion_197 (kRf fun x39 M38 hw => ?_)
              refine G_astore_n (pc := 200) (i := 1) (lw := [some (va_rf (some a0)), some (va_rf x39), some (va_rf x17)]) hC dJ40_fixAfterInsertion_200 rfl (Nat.le_of_ble_eq_true rfl) rfl ?_
              refine G_goto (pc := 201) (tgt := 255) hC dJ40_fixAfterInsertion_201 (by decide) ?_
              refine G_loc (lv' := [some (va_rf (some a0)), some (va_rf x39), none]) ⟨Or.inr rfl, Or.inr rfl, Or.inl rfl, trivial⟩ ?_
              exact g_J40_fixAfterInsertion_255 hJ hC hQ hin ih  x39 M38 hw
          · replace hw := hw.2 hc
            refine G_aload_n (pc := 44) (i := 1) hC dJ40_fixAfterInsertion_44 rfl rfl ?_
            refine G_callS (pc := 45) (n := 1) (As := [va_rf v1]) (rest := []) hC (m_J40_parentOf hJ hw) (lw_S q2315 q2316 q136 q2317) hdK_J40_parentOf.2 (by decide) rfl rfl (st_c cat_e (Nat.le_of_ble_eq_true rfl)) dJ40_fixAfterInsertion_45 (kRf fun x41 M40 hw => ?_)
            refine G_callS (pc := 48) (n := 1) (As := [va_rf x41]) (rest := []) hC (m_J40_parentOf hJ hw) (lw_S q2315 q2316 q136 q2317) hdK_J40_parentOf.2 (by decide) rfl rfl (st_c cat_e (Nat.le_of_ble_eq_true rfl)) dJ40_fixAfterInsertion_48 (kRf fun x43 M42 hw => ?_)
            refine G_callS (pc := 51) (n := 1) (As := [va_rf x43]) (rest := []) hC (m_J40_rightOf hJ hw) (lw_S q2321 q2322 q136 q2323) hdK_J40_rightOf.2 (by decide) rfl rfl (st_c cat_e (Nat.le_of_ble_eq_true rfl)) dJ40_fixAfterInsertion_51 (kRf fun x45 M44 hw => ?_)
            refine G_astore_n (pc := 54) (i := 2) (lw := [some (va_rf (some a0)), some (va_rf v1), some (va_rf x45)]) hC dJ40_fixAfterInsertion_54 rfl (Nat.le_of_ble_eq_true rfl) rfl ?_
            refine G_aload_n (pc := 55) (i := 2) hC dJ40_fixAfterInsertion_55 rfl rfl ?_
            refine G_callS (pc := 56) (n := 1) (As := [va_rf x45]) (rest := []) hC (m_J40_colorOf hJ hw) (lw_S q2324 q2325 q136 q2326) hdK_J40_colorOf.2 (by decide) rfl rfl (st_c cat_e (Nat.le_of_ble_eq_true rfl)) dJ40_fixAfterInsertion_56 (kI fun x47 M46 hw => ?_)
            refine G_if_ne (pc := 59) (tgt := 97) hC dJ40_fixAfterInsertion_59 (by decide) (fun hc => ?_) (fun hc => ?_)
            · replace hw := hw.1 hc
              refine G_aload_n (pc := 97) (i := 1) hC dJ40_fixAfterInsertion_97 rfl rfl ?_
              refine G_aload_n (pc := 98) (i := 1) hC dJ40_fixAfterInsertion_98 rfl rfl ?_
              refine G_callS (pc := 99) (n := 1) (As := [va_rf v1]) (rest := [va_rf v1]) hC (m_J40_parentOf hJ hw) (lw_S q2315 q2316 q136 q2317) hdK_J40_parentOf.2 (by decide) rfl rfl (st_c (cat_r cat_e) (Nat.le_of_ble_eq_true rfl)) dJ40_fixAfterInsertion_99 (kRf fun x49 M48 hw => ?_)
              refine G_callS (pc := 102) (n := 1) (As := [va_rf x49]) (rest := [va_rf v1]) hC (m_J40_rightOf hJ hw) (lw_S q2321 q2322 q136 q2323) hdK_J40_rightOf.2 (by decide) rfl rfl (st_c (cat_r cat_e) (Nat.le_of_ble_eq_true rfl)) dJ40_fixAfterInsertion_102 (kRf fun x51 M50 hw => ?_)
              refine G_acmp_ne (pc := 105) (tgt := 118) hC dJ40_fixAfterInsertion_105 (by decide) (fun hc => ?_) (fun hc => ?_)
              · replace hw := hw.1 hc
                refine G_loc (lv' := [some (va_rf (some a0)), some (va_rf v1), none]) ⟨Or.inr rfl, Or.inr rfl, Or.inl rfl, trivial⟩ ?_
                exact g_J40_fixAfterInsertion_118 hJ hC hQ hin ih  v1 M50 hw
              · replace hw := hw.2 hc
                refine G_aload_n (pc := 108) (i := 1) hC dJ40_fixAfterInsertion_108 rfl rfl ?_
                refine G_callS (pc := 109) (n := 1) (As := [va_rf v1]) (rest := []) hC (m_J40_parentOf hJ hw) (lw_S q2315 q2316 q136 q2317) hdK_J40_parentOf.2 (by decide) rfl rfl (st_c cat_e (Nat.le_of_ble_eq_true rfl)) dJ40_fixAfterInsertion_109 (kRf fun x53 M52 hw => ?_)
                refine G_astore_n (pc := 112) (i := 1) (lw := [some (va_rf (some a0)), some (va_rf x53), some (va_rf x45)]) hC dJ40_fixAfterInsertion_112 rfl (Nat.le_of_ble_eq_true rfl) rfl ?_
                refine G_aload_n (pc := 113) (i := 0) hC dJ40_fixAfterInsertion_113 rfl rfl ?_
                refine G_aload_n (pc := 114) (i := 1) hC dJ40_fixAfterInsertion_114 rfl rfl ?_
                obtain ⟨hb, hw⟩ := hw
                refine G_callV (pc := 115) (n := 1) (C := "java/util/TreeMap") (b := a0) (As := [va_rf x53]) (rest := []) hC (m_J40_rotateLeft hJ hw) (lw_V q2330 q2332 qs33 q136 q2333) hdK_J40_rotateLeft (by decide) (rcv (C := RJ40) (T := TJ40) (N := 9) hC hb rfl) rfl rfl (st_c cat_e (Nat.le_of_ble_eq_true rfl)) dJ40_fixAfterInsertion_115 (kU fun M54 hw => ?_)
                refine G_loc (lv' := [some (va_rf (some a0)), some (va_rf x53), none]) ⟨Or.inr rfl, Or.inr rfl, Or.inl rfl, trivial⟩ ?_
                exact g_J40_fixAfterInsertion_118 hJ hC hQ hin ih  x53 M54 hw
            · replace hw := hw.2 hc
              refine G_aload_n (pc := 62) (i := 1) hC dJ40_fixAfterInsertion_62 rfl rfl ?_
              refine G_callS (pc := 63) (n := 1) (As := [va_rf v1]) (rest := []) hC (m_J40_parentOf hJ hw) (lw_S q2315 q2316 q136 q2317) hdK_J40_parentOf.2 (by decide) rfl rfl (st_c cat_e (Nat.le_of_ble_eq_true rfl)) dJ40_fixAfterInsertion_63 (kRf fun x56 M55 hw => ?_)
              refine G_iconst (pc := 66) (v := 1) hC dJ40_fixAfterInsertion_66 (by decide) ?_
              refine G_callS (pc := 67) (n := 2) (As := [va_rf x56, .int (1 : Int32)]) (rest := []) hC (m_J40_setColor hJ hw) (lw_S q2327 q2328 q136 q2329) hdK_J40_setColor.2 (by decide) rfl rfl (st_c cat_e (Nat.le_of_ble_eq_true rfl)) dJ40_fixAfterInsertion_67 (kU fun M57 hw => ?_)
              refine G_aload_n (pc := 70) (i := 2) hC dJ40_fixAfterInsertion_70 rfl rfl ?_
              refine G_iconst (pc := 71) (v := 1) hC dJ40_fixAfterInsertion_71 (by decide) ?_
              refine G_callS (pc := 72) (n := 2) (As := [va_rf x45, .int (1 : Int32)]) (rest := []) hC (m_J40_setColor hJ hw) (lw_S q2327 q2328 q136 q2329) hdK_J40_setColor.2 (by decide) rfl rfl (st_c cat_e (Nat.le_of_ble_eq_true rfl)) dJ40_fixAfterInsertion_72 (kU fun M58 hw => ?_)
              refine G_aload_n (pc := 75) (i := 1) hC dJ40_fixAfterInsertion_75 rfl rfl ?_
              refine G_callS (pc := 76) (n := 1) (As := [va_rf v1]) (rest := []) hC (m_J40_parentOf hJ hw) (lw_S q2315 q2316 q136 q2317) hdK_J40_parentOf.2 (by decide) rfl rfl (st_c cat_e (Nat.le_of_ble_eq_true rfl)) dJ40_fixAfterInsertion_76 (kRf fun x60 M59 hw => ?_)
              refine G_callS (pc := 79) (n := 1) (As := [va_rf x60]) (rest := []) hC (m_J40_parentOf hJ hw) (lw_S q2315 q2316 q136 q2317) hdK_J40_parentOf.2 (by decide) rfl rfl (st_c cat_e (Nat.le_of_ble_eq_true rfl)) dJ40_fixAfterInsertion_79 (kRf fun x62 M61 hw => ?_)
              refine G_iconst (pc := 82) (v := 0) hC dJ40_fixAfterInsertion_82 (by decide) ?_
              refine G_callS (pc := 83) (n := 2) (As := [va_rf x62, .int (0 : Int32)]) (rest := []) hC (m_J40_setColor hJ hw) (lw_S q2327 q2328 q136 q2329) hdK_J40_setColor.2 (by decide) rfl rfl (st_c cat_e (Nat.le_of_ble_eq_true rfl)) dJ40_fixAfterInsertion_83 (kU fun M63 hw => ?_)
              refine G_aload_n (pc := 86) (i := 1) hC dJ40_fixAfterInsertion_86 rfl rfl ?_
              refine G_callS (pc := 87) (n := 1) (As := [va_rf v1]) (rest := []) hC (m_J40_parentOf hJ hw) (lw_S q2315 q2316 q136 q2317) hdK_J40_parentOf.2 (by decide) rfl rfl (st_c cat_e (Nat.le_of_ble_eq_true rfl)) dJ40_fixAfterInsertion_87 (kRf fun x65 M64 hw => ?_)
              refine G_callS (pc := 90) (n := 1) (As := [va_rf x65]) (rest := []) hC (m_J40_parentOf hJ hw) (lw_S q2315 q2316 q136 q2317) hdK_J40_parentOf.2 (by decide) rfl rfl (st_c cat_e (Nat.le_of_ble_eq_true rfl)) dJ40_fixAfterInsertion_90 (kRf fun x67 M66 hw => ?_)
              refine G_astore_n (pc := 93) (i := 1) (lw := [some (va_rf (some a0)), some (va_rf x67), some (va_rf x45)]) hC dJ40_fixAfterInsertion_93 rfl (Nat.le_of_ble_eq_true rfl) rfl ?_
              refine G_goto (pc := 94) (tgt := 148) hC dJ40_fixAfterInsertion_94 (by decide) ?_
              refine G_loc (lv' := [some (va_rf (some a0)), some (va_rf x67), none]) ⟨Or.inr rfl, Or.inr rfl, Or.inl rfl, trivial⟩ ?_
              exact g_J40_fixAfterInsertion_148 hJ hC hQ hin ih  x67 M66 hw
theorem m_J40_fixAfterInsertion {l : Launch} {g : gT} {F : Nat} {a0 : Nat} {p1 : Option Nat} {M : hM} {Q : hM → Prop} (hJ : JK l g) (hw : w_J40_fixAfterInsertion g F a0 p1 M Q) : MG l g yJ40_fixAfterInsertion (ws_ yJ40_fixAfterInsertion cJ40_fixAfterInsertion 3 none) 2 34 [va_rf (some a0), va_rf p1] M (PU Q) := by
  refine MG_of hJ.2.1 (by decide) (cat_r (cat_r cat_e)) (Nat.le_of_ble_eq_true rfl) (fun k hl hg hin hQ hC => ?_)
  subst hl hg
  show GW k 3 M 0 [some (va_rf (some a0)), some (va_rf p1), none] []
  refine G_aload_n (pc := 0) (i := 1) hC dJ40_fixAfterInsertion_0 rfl rfl ?_
  refine G_iconst (pc := 1) (v := 0) hC dJ40_fixAfterInsertion_1 (by decide) ?_
  refine G_put (pc := 2) (ci := 31) (C := RJ41) (T := TJ41) (N := 6) (f := 5) tyJ41 hC rfl in_J41 tyJ41_ok nmJ41 (Nat.le_of_ble_eq_true rfl) q2293 (fun _ h => h) rfl rfl rfl dJ40_fixAfterInsertion_2 hw (fun M1 hw => ?_)
  exact g_J40_fixAfterInsertion_5 hJ hC hQ hin _ p1 M1 hw
def w_J41_init (g : gT) (F : Nat) (a0 : Nat) (p1 : Option Nat) (p2 : Option Nat) (p3 : Option Nat) (M : hM) (Q : hM → Prop) : Prop :=
  pV M (some a0) 31 5 (.int (1 : Int32)) fun M1 => pV M1 (some a0) 31 0 (va_rf p1) fun M2 => pV M2 (some a0) 31 1 (va_rf p2) fun M3 => pV M3 (some a0) 31 4 (va_rf p3) fun M4 => Q M4
theorem m_J41_init {l : Launch} {g : gT} {F : Nat} {a0 : Nat} {p1 : Option Nat} {p2 : Option Nat} {p3 : Option Nat} {M : hM} {Q : hM → Prop} (hJ : JK l g) (hw : w_J41_init g F a0 p1 p2 p3 M Q) : MG l g yJ41_init (ws_ yJ41_init cJ41_init 4 none) 1 20 [va_rf (some a0), va_rf p1, va_rf p2, va_rf p3] M (PU Q) := by
  refine MG_of hJ.2.1 (by decide) (cat_r (cat_r (cat_r (cat_r cat_e)))) (Nat.le_of_ble_eq_true rfl) (fun k hl hg hin hQ hC => ?_)
  subst hl hg
  show GW k 4 M 0 [some (va_rf (some a0)), some (va_rf p1), some (va_rf p2), some (va_rf p3)] []
  refine G_aload_n (pc := 0) (i := 0) hC dJ41_init_0 rfl rfl ?_
  refine G_objInit (pc := 1) hC q2283 q158 q159 rfl rfl (st_c cat_e (Nat.le_of_ble_eq_true rfl)) dJ41_init_1 ?_
  refine G_aload_n (pc := 4) (i := 0) hC dJ41_init_4 rfl rfl ?_
  refine G_iconst (pc := 5) (v := 1) hC dJ41_init_5 (by decide) ?_
  refine G_put (pc := 6) (ci := 31) (C := RJ41) (T := TJ41) (N := 6) (f := 5) tyJ41 hC rfl in_J41 tyJ41_ok nmJ41 (Nat.le_of_ble_eq_true rfl) q2292 (fun _ h => h) rfl rfl rfl dJ41_init_6 hw (fun M1 hw => ?_)
  refine G_aload_n (pc := 9) (i := 0) hC dJ41_init_9 rfl rfl ?_
  refine G_aload_n (pc := 10) (i := 1) hC dJ41_init_10 rfl rfl ?_
  refine G_put (pc := 11) (ci := 31) (C := RJ41) (T := TJ41) (N := 6) (f := 0) tyJ41 hC rfl in_J41 tyJ41_ok nmJ41 (Nat.le_of_ble_eq_true rfl) q2284 (fun _ h => h) rfl (nR_o _ _) (fR_o _ _) dJ41_init_11 hw (fun M2 hw => ?_)
  refine G_aload_n (pc := 14) (i := 0) hC dJ41_init_14 rfl rfl ?_
  refine G_aload_n (pc := 15) (i := 2) hC dJ41_init_15 rfl rfl ?_
  refine G_put (pc := 16) (ci := 31) (C := RJ41) (T := TJ41) (N := 6) (f := 1) tyJ41 hC rfl in_J41 tyJ41_ok nmJ41 (Nat.le_of_ble_eq_true rfl) q2286 (fun _ h => h) rfl (nR_o _ _) (fR_o _ _) dJ41_init_16 hw (fun M3 hw => ?_)
  refine G_aload_n (pc := 19) (i := 0) hC dJ41_init_19 rfl rfl ?_
  refine G_aload_n (pc := 20) (i := 3) hC dJ41_init_20 rfl rfl ?_
  refine G_put (pc := 21) (ci := 31) (C := RJ41) (T := TJ41) (N := 6) (f := 4) tyJ41 hC rfl in_J41 tyJ41_ok nmJ41 (Nat.le_of_ble_eq_true rfl) q2290 (fun _ h => h) rfl (nR_o _ _) (fR_o _ _) dJ41_init_21 hw (fun M4 hw => ?_)
  exact G_ret (pc := 24) hC hQ dJ41_init_24 hw
theorem hdK_J40_fixAfterInsertion : yJ40_fixAfterInsertion.cls = "java/util/TreeMap" ∧ yJ40_fixAfterInsertion.cls ≠ "java/lang/invoke/MethodHandle" ∧ yJ40_fixAfterInsertion.cls ≠ "java/lang/invoke/VarHandle" ∧ (parseMethodDescriptor yJ40_fixAfterInsertion.desc).map (fun d => d.parameters.length) = some 1 := by decide +kernel
theorem hdK_J41_init : yJ41_init.cls = "java/util/TreeMap$Entry" ∧ yJ41_init.cls ≠ "java/lang/invoke/MethodHandle" ∧ yJ41_init.cls ≠ "java/lang/invoke/VarHandle" ∧ (parseMethodDescriptor yJ41_init.desc).map (fun d => d.parameters.length) = some 3 := by decide +kernel
def w_J40_addEntry_32 (g : gT) (F : Nat) (a0 : Nat) (p1 : Option Nat) (p2 : Option Nat) (p3 : Option Nat) (p4 : Int32) (Q : hM → Prop) (v5 : Option Nat) (M : hM) : Prop :=
  (isC M a0 30 ∧ w_J40_fixAfterInsertion g F a0 v5 M (fun M1 => gI M1 (some a0) 30 4 fun x2 => pV M1 (some a0) 30 4 (.int (x2 + (1 : Int32))) fun M3 => gI M3 (some a0) 30 5 fun x4 => pV M3 (some a0) 30 5 (.int (x4 + (1 : Int32))) fun M5 => Q M5))
def w_J40_addEntry (g : gT) (F : Nat) (a0 : Nat) (p1 : Option Nat) (p2 : Option Nat) (p3 : Option Nat) (p4 : Int32) (M : hM) (Q : hM → Prop) : Prop :=
  nW M 31 fsJ41 fun q1 M2 => (isC M2 q1 31 ∧ w_J41_init g F q1 p1 p2 p3 M2 (fun M3 => ((p4 = 0 → pV M3 p3 31 3 (va_rf (some q1)) fun M4 => w_J40_addEntry_32 g F a0 p1 p2 p3 p4 Q (some q1) M4) ∧ (¬ (p4 = 0) → pV M3 p3 31 2 (va_rf (some q1)) fun M5 => w_J40_addEntry_32 g F a0 p1 p2 p3 p4 Q (some q1) M5))))
theorem g_J40_addEntry_32 {k : kT} {F : Nat} {a0 : Nat} {p1 : Option Nat} {p2 : Option Nat} {p3 : Option Nat} {p4 : Int32} {Q : hM → Prop} (hJ : JK (kl k) (kg k)) (hC : CX k 6 cJ40_addEntry RJ40 none 3 56) (hQ : isQ k (PU Q)) (hin : (kt k).name = "addEntry") : ∀ (v5 : Option Nat) (M : hM), w_J40_addEntry_32 (kg k) F a0 p1 p2 p3 p4 Q v5 M → GW k 6 M 32 [some (va_rf (some a0)), some (va_rf p1), some (va_rf p2), some (va_rf p3), some (.int p4), some (va_rf v5)] [] := by
  intro v5 M hw
  refine G_aload_n (pc := 32) (i := 0) hC dJ40_addEntry_32 rfl rfl ?_
  refine G_aload (pc := 33) (i := 5) hC dJ40_addEntry_33 rfl ?_
  obtain ⟨hb, hw⟩ := hw
  refine G_callV (pc := 35) (n := 1) (C := "java/util/TreeMap") (b := a0) (As := [va_rf v5]) (rest := []) hC (m_J40_fixAfterInsertion hJ hw) (lw_V q2311 q2313 qs32 q136 q2314) hdK_J40_fixAfterInsertion (by decide) (rcv (C := RJ40) (T := TJ40) (N := 9) hC hb rfl) rfl rfl (st_c cat_e (Nat.le_of_ble_eq_true rfl)) dJ40_addEntry_35 (kU fun M1 hw => ?_)
  refine G_aload_n (pc := 38) (i := 0) hC dJ40_addEntry_38 rfl rfl ?_
  refine G_dup (pc := 39) hC dJ40_addEntry_39 (rf_cat _) ?_
  refine G_getI (pc := 40) (ci := 30) (C := RJ40) (T := TJ40) (N := 9) (f := 4) hC rfl in_J40 (Nat.le_of_ble_eq_true rfl) q2219 (fun _ h => h) dJ40_addEntry_40 hw (fun x2 hw => ?_)
  refine G_iconst (pc := 43) (v := 1) hC dJ40_addEntry_43 (by decide) ?_
  refine G_iadd (pc := 44) hC dJ40_addEntry_44 ?_
  refine G_put (pc := 45) (ci := 30) (C := RJ40) (T := TJ40) (N := 9) (f := 4) tyJ40 hC rfl in_J40 tyJ40_ok nmJ40 (Nat.le_of_ble_eq_true rfl) q2219 (fun _ h => h) rfl rfl rfl dJ40_addEntry_45 hw (fun M3 hw => ?_)
  refine G_aload_n (pc := 48) (i := 0) hC dJ40_addEntry_48 rfl rfl ?_
  refine G_dup (pc := 49) hC dJ40_addEntry_49 (rf_cat _) ?_
  refine G_getI (pc := 50) (ci := 30) (C := RJ40) (T := TJ40) (N := 9) (f := 5) hC rfl in_J40 (Nat.le_of_ble_eq_true rfl) q2220 (fun _ h => h) dJ40_addEntry_50 hw (fun x4 hw => ?_)
  refine G_iconst (pc := 53) (v := 1) hC dJ40_addEntry_53 (by decide) ?_
  refine G_iadd (pc := 54) hC dJ40_addEntry_54 ?_
  refine G_put (pc := 55) (ci := 30) (C := RJ40) (T := TJ40) (N := 9) (f := 5) tyJ40 hC rfl in_J40 tyJ40_ok nmJ40 (Nat.le_of_ble_eq_true rfl) q2220 (fun _ h => h) rfl rfl rfl dJ40_addEntry_55 hw (fun M5 hw => ?_)
  exact G_ret (pc := 58) hC hQ dJ40_addEntry_58 hw
theorem m_J40_addEntry {l : Launch} {g : gT} {F : Nat} {a0 : Nat} {p1 : Option Nat} {p2 : Option Nat} {p3 : Option Nat} {p4 : Int32} {M : hM} {Q : hM → Prop} (hJ : JK l g) (hw : w_J40_addEntry g F a0 p1 p2 p3 p4 M Q) : MG l g yJ40_addEntry (ws_ yJ40_addEntry cJ40_addEntry 6 none) 3 56 [va_rf (some a0), va_rf p1, va_rf p2, va_rf p3, .int p4] M (PU Q) := by
  refine MG_of hJ.2.1 (by decide) (cat_r (cat_r (cat_r (cat_r (cat_i cat_e))))) (Nat.le_of_ble_eq_true rfl) (fun k hl hg hin hQ hC => ?_)
  subst hl hg
  show GW k 6 M 0 [some (va_rf (some a0)), some (va_rf p1), some (va_rf p2), some (va_rf p3), some (.int p4), none] []
  refine G_new (pc := 0) (ci := 31) (C := RJ41) (T := TJ41) (N := 6) (fs := fsJ41) tyJ41 hC rfl in_J41 tyJ41_ok q2278 q2279 q137 dfJ41 rfl dJ40_addEntry_0 hw (fun q1 M2 hw => ?_)
  refine G_dup (pc := 3) hC dJ40_addEntry_3 (rf_cat _) ?_
  refine G_aload_n (pc := 4) (i := 1) hC dJ40_addEntry_4 rfl rfl ?_
  refine G_aload_n (pc := 5) (i := 2) hC dJ40_addEntry_5 rfl rfl ?_
  refine G_aload_n (pc := 6) (i := 3) hC dJ40_addEntry_6 rfl rfl ?_
  obtain ⟨hb, hw⟩ := hw
  refine G_callI (pc := 7) (n := 3) (b := q1) (As := [va_rf p1, va_rf p2, va_rf p3]) (rest := [va_rf (some q1)]) hC (m_J41_init hJ hw) (lw_meth q2282) q137 q2280 q2281 rfl hdK_J41_init.2 (by decide) rfl rfl (st_c (cat_r cat_e) (Nat.le_of_ble_eq_true rfl)) dJ40_addEntry_7 (kU fun M3 hw => ?_)
  refine G_astore (pc := 10) (i := 5) (lw := [some (va_rf (some a0)), some (va_rf p1), some (va_rf p2), some (va_rf p3), some (.int p4), some (va_rf (some q1))]) hC dJ40_addEntry_10 (Nat.le_of_ble_eq_true rfl) rfl ?_
  refine G_iload (pc := 12) (i := 4) hC dJ40_addEntry_12 rfl ?_
  refine G_if_eq (pc := 14) (tgt := 26) hC dJ40_addEntry_14 (by decide) (fun hc => ?_) (fun hc => ?_)
  · replace hw := hw.1 hc
    refine G_aload_n (pc := 26) (i := 3) hC dJ40_addEntry_26 rfl rfl ?_
    refine G_aload (pc := 27) (i := 5) hC dJ40_addEntry_27 rfl ?_
    refine G_put (pc := 29) (ci := 31) (C := RJ41) (T := TJ41) (N := 6) (f := 3) tyJ41 hC rfl in_J41 tyJ41_ok nmJ41 (Nat.le_of_ble_eq_true rfl) q2289 (fun _ h => h) rfl (nR_o _ _) (fR_o _ _) dJ40_addEntry_29 hw (fun M4 hw => ?_)
    exact g_J40_addEntry_32 hJ hC hQ hin  (some q1) M4 hw
  · replace hw := hw.2 hc
    refine G_aload_n (pc := 17) (i := 3) hC dJ40_addEntry_17 rfl rfl ?_
    refine G_aload (pc := 18) (i := 5) hC dJ40_addEntry_18 rfl ?_
    refine G_put (pc := 20) (ci := 31) (C := RJ41) (T := TJ41) (N := 6) (f := 2) tyJ41 hC rfl in_J41 tyJ41_ok nmJ41 (Nat.le_of_ble_eq_true rfl) q2288 (fun _ h => h) rfl (nR_o _ _) (fR_o _ _) dJ40_addEntry_20 hw (fun M5 hw => ?_)
    refine G_goto (pc := 23) (tgt := 32) hC dJ40_addEntry_23 (by decide) ?_
    exact g_J40_addEntry_32 hJ hC hQ hin  (some q1) M5 hw
theorem hdK_J19_compare : yJ19_compare.cls = "java/lang/Integer" ∧ yJ19_compare.cls ≠ "java/lang/invoke/MethodHandle" ∧ yJ19_compare.cls ≠ "java/lang/invoke/VarHandle" ∧ (parseMethodDescriptor yJ19_compare.desc).map (fun d => d.parameters.length) = some 2 := by decide +kernel
def w_J19_compareTo_2 (g : gT) (F : Nat) (a0 : Nat) (p1 : Option Nat) (M : hM) (Q : Int32 → hM → Prop) : Prop :=
  bxV g M (some a0) fun x1 => bxV g M p1 fun x2 => w_J19_compare g F x1 x2 M (fun x4 M3 => Q x4 M3)
theorem m_J19_compareTo_2 {l : Launch} {g : gT} {F : Nat} {a0 : Nat} {p1 : Option Nat} {M : hM} {Q : Int32 → hM → Prop} (hJ : JK l g) (hw : w_J19_compareTo_2 g F a0 p1 M Q) : MG l g yJ19_compareTo_2 (ws_ yJ19_compareTo_2 cJ19_compareTo_2 2 (some .int)) 2 33 [va_rf (some a0), va_rf p1] M (PI Q) := by
  refine MG_of hJ.2.1 (by decide) (cat_r (cat_r cat_e)) (Nat.le_of_ble_eq_true rfl) (fun k hl hg hin hQ hC => ?_)
  subst hl hg
  show GW k 2 M 0 [some (va_rf (some a0)), some (va_rf p1)] []
  refine G_aload_n (pc := 0) (i := 0) hC dJ19_compareTo_2_0 rfl rfl ?_
  refine G_getBox (pc := 1) hJ hC q1007 (fun _ h => h) dJ19_compareTo_2_1 hw (fun x1 hw => ?_)
  refine G_aload_n (pc := 4) (i := 1) hC dJ19_compareTo_2_4 rfl rfl ?_
  refine G_getBox (pc := 5) hJ hC q1007 (fun _ h => h) dJ19_compareTo_2_5 hw (fun x2 hw => ?_)
  refine G_callS (pc := 8) (n := 2) (As := [.int x1, .int x2]) (rest := []) hC (m_J19_compare hJ hw) (lw_S q1940 q1921 q106 q1922) hdK_J19_compare.2 (by decide) rfl rfl (st_c cat_e (Nat.le_of_ble_eq_true rfl)) dJ19_compareTo_2_8 (kI fun x4 M3 hw => ?_)
  exact G_iret (pc := 11) hC rfl hQ dJ19_compareTo_2_11 hw
theorem hdK_J19_compareTo_2 : yJ19_compareTo_2.cls = "java/lang/Integer" ∧ yJ19_compareTo_2.cls ≠ "java/lang/invoke/MethodHandle" ∧ yJ19_compareTo_2.cls ≠ "java/lang/invoke/VarHandle" ∧ (parseMethodDescriptor yJ19_compareTo_2.desc).map (fun d => d.parameters.length) = some 1 := by decide +kernel
def w_J19_compareTo (g : gT) (F : Nat) (a0 : Nat) (p1 : Option Nat) (M : hM) (Q : Int32 → hM → Prop) : Prop :=
  ckB g M p1 (((∃ z, isBox g M a0 z) ∧ w_J19_compareTo_2 g F a0 p1 M (fun x2 M1 => Q x2 M1)))
theorem m_J19_compareTo {l : Launch} {g : gT} {F : Nat} {a0 : Nat} {p1 : Option Nat} {M : hM} {Q : Int32 → hM → Prop} (hJ : JK l g) (hw : w_J19_compareTo g F a0 p1 M Q) : MG l g yJ19_compareTo (ws_ yJ19_compareTo cJ19_compareTo 2 (some .int)) 3 54 [va_rf (some a0), va_rf p1] M (PI Q) := by
  refine MG_of hJ.2.1 (by decide) (cat_r (cat_r cat_e)) (Nat.le_of_ble_eq_true rfl) (fun k hl hg hin hQ hC => ?_)
  subst hl hg
  show GW k 2 M 0 [some (va_rf (some a0)), some (va_rf p1)] []
  refine G_aload_n (pc := 0) (i := 0) hC dJ19_compareTo_0 rfl rfl ?_
  refine G_aload_n (pc := 1) (i := 1) hC dJ19_compareTo_1 rfl rfl ?_
  obtain ⟨hb, hw⟩ := hw
  refine G_castBS (pc := 2) hJ.1 hC q998 hb dJ19_compareTo_2 ?_
  obtain ⟨hb, hw⟩ := hw
  refine G_callV (pc := 5) (n := 1) (C := "java/lang/Integer") (b := a0) (As := [va_rf p1]) (rest := []) hC (m_J19_compareTo_2 hJ hw) (lw_V q1936 q1937 q1938 q106 q1939) hdK_J19_compareTo_2 (by decide) (rcvB hJ.1 hC hb) rfl rfl (st_c cat_e (Nat.le_of_ble_eq_true rfl)) dJ19_compareTo_5 (kI fun x2 M1 hw => ?_)
  exact G_iret (pc := 8) hC rfl hQ dJ19_compareTo_8 hw
def w_J21_requireNonNull (g : gT) (F : Nat) (p0 : Option Nat) (M : hM) (Q : Option Nat → hM → Prop) : Prop :=
  ((¬ p0 = none → Q p0 M) ∧ (p0 = none → False))
theorem m_J21_requireNonNull {l : Launch} {g : gT} {F : Nat} {p0 : Option Nat} {M : hM} {Q : Option Nat → hM → Prop} (hJ : JK l g) (hw : w_J21_requireNonNull g F p0 M Q) : MG l g yJ21_requireNonNull (ws_ yJ21_requireNonNull cJ21_requireNonNull 1 (some (.object "java/lang/Object"))) 1 12 [va_rf p0] M (PR Q) := by
  refine MG_of hJ.2.1 (by decide) (cat_r cat_e) (Nat.le_of_ble_eq_true rfl) (fun k hl hg hin hQ hC => ?_)
  subst hl hg
  show GW k 1 M 0 [some (va_rf p0)] []
  refine G_aload_n (pc := 0) (i := 0) hC dJ21_requireNonNull_0 rfl rfl ?_
  refine G_ifnonnull (pc := 1) (tgt := 12) hC dJ21_requireNonNull_1 (by decide) (fun hc => ?_) (fun hc => ?_)
  · replace hw := hw.1 hc
    refine G_aload_n (pc := 12) (i := 0) hC dJ21_requireNonNull_12 rfl rfl ?_
    exact G_aret (pc := 13) hC (Or.inl ⟨_, rfl⟩) hQ dJ21_requireNonNull_13 hw
  · replace hw := hw.2 hc
    exact hw.elim
def w_J40_compare_31 (g : gT) (F : Nat) (a0 : Nat) (p1 : Option Nat) (p2 : Option Nat) (Q : Int32 → hM → Prop) (s0 : Int32) (M : hM) : Prop :=
  Q s0 M
def w_J40_compare (g : gT) (F : Nat) (a0 : Nat) (p1 : Option Nat) (p2 : Option Nat) (M : hM) (Q : Int32 → hM → Prop) : Prop :=
  gF M (some a0) 30 2 fun x1 => ((¬ x1 = none → gF M (some a0) 30 2 fun x2 => False) ∧ (x1 = none → ckB g M p1 (gBx g M p1 fun b4 => w_J19_compareTo g F b4 p2 M (fun x5 M3 => w_J40_compare_31 g F a0 p1 p2 Q x5 M3))))
theorem g_J40_compare_31 {k : kT} {F : Nat} {a0 : Nat} {p1 : Option Nat} {p2 : Option Nat} {Q : Int32 → hM → Prop} (hJ : JK (kl k) (kg k)) (hC : CX k 3 cJ40_compare RJ40 (some .int) 4 75) (hQ : isQ k (PI Q)) (hin : (kt k).name = "compare") : ∀ (s0 : Int32) (M : hM), w_J40_compare_31 (kg k) F a0 p1 p2 Q s0 M → GW k 3 M 31 [some (va_rf (some a0)), some (va_rf p1), some (va_rf p2)] [.int s0] := by
  intro s0 M hw
  exact G_iret (pc := 31) hC rfl hQ dJ40_compare_31 hw
theorem m_J40_compare {l : Launch} {g : gT} {F : Nat} {a0 : Nat} {p1 : Option Nat} {p2 : Option Nat} {M : hM} {Q : Int32 → hM → Prop} (hJ : JK l g) (hw : w_J40_compare g F a0 p1 p2 M Q) : MG l g yJ40_compare (ws_ yJ40_compare cJ40_compare 3 (some .int)) 4 75 [va_rf (some a0), va_rf p1, va_rf p2] M (PI Q) := by
  refine MG_of hJ.2.1 (by decide) (cat_r (cat_r (cat_r cat_e))) (Nat.le_of_ble_eq_true rfl) (fun k hl hg hin hQ hC => ?_)
  subst hl hg
  show GW k 3 M 0 [some (va_rf (some a0)), some (va_rf p1), some (va_rf p2)] []
  refine G_aload_n (pc := 0) (i := 0) hC dJ40_compare_0 rfl rfl ?_
  refine G_getF (pc := 1) (ci := 30) (C := RJ40) (T := TJ40) (N := 9) (f := 2) hC rfl in_J40 (Nat.le_of_ble_eq_true rfl) q2217 (fun _ h => h) dJ40_compare_1 hw (fun x1 hw => ?_)
  refine G_ifnonnull (pc := 4) (tgt := 20) hC dJ40_compare_4 (by decide) (fun hc => ?_) (fun hc => ?_)
  · replace hw := hw.1 hc
    refine G_aload_n (pc := 20) (i := 0) hC dJ40_compare_20 rfl rfl ?_
    refine G_getF (pc := 21) (ci := 30) (C := RJ40) (T := TJ40) (N := 9) (f := 2) hC rfl in_J40 (Nat.le_of_ble_eq_true rfl) q2217 (fun _ h => h) dJ40_compare_21 hw (fun x2 hw => ?_)
    refine G_aload_n (pc := 24) (i := 1) hC dJ40_compare_24 rfl rfl ?_
    refine G_aload_n (pc := 25) (i := 2) hC dJ40_compare_25 rfl rfl ?_
    exact hw.elim
  · replace hw := hw.2 hc
    refine G_aload_n (pc := 7) (i := 1) hC dJ40_compare_7 rfl rfl ?_
    obtain ⟨hb, hw⟩ := hw
    refine G_castB (pc := 8) (nm := "java/lang/Comparable") hJ.1 hC q2258 (nw_in q1678 rfl) hb dJ40_compare_8 ?_
    refine G_aload_n (pc := 11) (i := 2) hC dJ40_compare_11 rfl rfl ?_
    obtain ⟨b4, rfl, hb, hw⟩ := gBx_e hw
    refine G_callF (pc := 12) (n := 1) (x := ⟨"java/lang/Comparable", "compareTo", "(Ljava/lang/Object;)I"⟩) (C := "java/lang/Integer") (ci := 25) (T := TJ19) (N := 1) (b := b4) (As := [va_rf p2]) (rest := []) hC (m_J19_compareTo hJ hw) (lw_F q2260 q1931 q1933 q106 q1935) (nw_in q1930 rfl) (nw_in q1929 rfl) (nw_in q1934 rfl) (nw_in q1932 rfl) (nw_in q1678 rfl) rfl (rcvB hJ.1 hC hb) (by decide +kernel) (by decide) rfl rfl (st_c cat_e (Nat.le_of_ble_eq_true rfl)) dJ40_compare_12 (kI fun x5 M3 hw => ?_)
    refine G_goto (pc := 17) (tgt := 31) hC dJ40_compare_17 (by decide) ?_
    exact g_J40_compare_31 hJ hC hQ hin  x5 M3 hw
theorem hdK_J40_compare : yJ40_compare.cls = "java/util/TreeMap" ∧ yJ40_compare.cls ≠ "java/lang/invoke/MethodHandle" ∧ yJ40_compare.cls ≠ "java/lang/invoke/VarHandle" ∧ (parseMethodDescriptor yJ40_compare.desc).map (fun d => d.parameters.length) = some 2 := by decide +kernel
def w_J40_addEntryToEmptyMap (g : gT) (F : Nat) (a0 : Nat) (p1 : Option Nat) (p2 : Option Nat) (M : hM) (Q : hM → Prop) : Prop :=
  (isC M a0 30 ∧ w_J40_compare g F a0 p1 p1 M (fun x2 M1 => nW M1 31 fsJ41 fun q3 M4 => (isC M4 q3 31 ∧ w_J41_init g F q3 p1 p2 none M4 (fun M5 => pV M5 (some a0) 30 3 (va_rf (some q3)) fun M6 => pV M6 (some a0) 30 4 (.int (1 : Int32)) fun M7 => gI M7 (some a0) 30 5 fun x8 => pV M7 (some a0) 30 5 (.int (x8 + (1 : Int32))) fun M9 => Q M9))))
theorem m_J40_addEntryToEmptyMap {l : Launch} {g : gT} {F : Nat} {a0 : Nat} {p1 : Option Nat} {p2 : Option Nat} {M : hM} {Q : hM → Prop} (hJ : JK l g) (hw : w_J40_addEntryToEmptyMap g F a0 p1 p2 M Q) : MG l g yJ40_addEntryToEmptyMap (ws_ yJ40_addEntryToEmptyMap cJ40_addEntryToEmptyMap 3 none) 5 97 [va_rf (some a0), va_rf p1, va_rf p2] M (PU Q) := by
  refine MG_of hJ.2.1 (by decide) (cat_r (cat_r (cat_r cat_e))) (Nat.le_of_ble_eq_true rfl) (fun k hl hg hin hQ hC => ?_)
  subst hl hg
  show GW k 3 M 0 [some (va_rf (some a0)), some (va_rf p1), some (va_rf p2)] []
  refine G_aload_n (pc := 0) (i := 0) hC dJ40_addEntryToEmptyMap_0 rfl rfl ?_
  refine G_aload_n (pc := 1) (i := 1) hC dJ40_addEntryToEmptyMap_1 rfl rfl ?_
  refine G_aload_n (pc := 2) (i := 1) hC dJ40_addEntryToEmptyMap_2 rfl rfl ?_
  obtain ⟨hb, hw⟩ := hw
  refine G_callV (pc := 3) (n := 2) (C := "java/util/TreeMap") (b := a0) (As := [va_rf p1, va_rf p1]) (rest := []) hC (m_J40_compare hJ hw) (lw_V q2274 q2275 q2276 q136 q2277) hdK_J40_compare (by decide) (rcv (C := RJ40) (T := TJ40) (N := 9) hC hb rfl) rfl rfl (st_c cat_e (Nat.le_of_ble_eq_true rfl)) dJ40_addEntryToEmptyMap_3 (kI fun x2 M1 hw => ?_)
  refine G_pop (pc := 6) hC dJ40_addEntryToEmptyMap_6 rfl ?_
  refine G_aload_n (pc := 7) (i := 0) hC dJ40_addEntryToEmptyMap_7 rfl rfl ?_
  refine G_new (pc := 8) (ci := 31) (C := RJ41) (T := TJ41) (N := 6) (fs := fsJ41) tyJ41 hC rfl in_J41 tyJ41_ok q2278 q2279 q137 dfJ41 rfl dJ40_addEntryToEmptyMap_8 hw (fun q3 M4 hw => ?_)
  refine G_dup (pc := 11) hC dJ40_addEntryToEmptyMap_11 (rf_cat _) ?_
  refine G_aload_n (pc := 12) (i := 1) hC dJ40_addEntryToEmptyMap_12 rfl rfl ?_
  refine G_aload_n (pc := 13) (i := 2) hC dJ40_addEntryToEmptyMap_13 rfl rfl ?_
  refine G_null (pc := 14) hC dJ40_addEntryToEmptyMap_14 ?_
  obtain ⟨hb, hw⟩ := hw
  refine G_callI (pc := 15) (n := 3) (b := q3) (As := [va_rf p1, va_rf p2, va_rf none]) (rest := [va_rf (some q3), va_rf (some a0)]) hC (m_J41_init hJ hw) (lw_meth q2282) q137 q2280 q2281 rfl hdK_J41_init.2 (by decide) rfl rfl (st_c (cat_r (cat_r cat_e)) (Nat.le_of_ble_eq_true rfl)) dJ40_addEntryToEmptyMap_15 (kU fun M5 hw => ?_)
  refine G_put (pc := 18) (ci := 30) (C := RJ40) (T := TJ40) (N := 9) (f := 3) tyJ40 hC rfl in_J40 tyJ40_ok nmJ40 (Nat.le_of_ble_eq_true rfl) q2218 (fun _ h => h) rfl (nR_o _ _) (fR_o _ _) dJ40_addEntryToEmptyMap_18 hw (fun M6 hw => ?_)
  refine G_aload_n (pc := 21) (i := 0) hC dJ40_addEntryToEmptyMap_21 rfl rfl ?_
  refine G_iconst (pc := 22) (v := 1) hC dJ40_addEntryToEmptyMap_22 (by decide) ?_
  refine G_put (pc := 23) (ci := 30) (C := RJ40) (T := TJ40) (N := 9) (f := 4) tyJ40 hC rfl in_J40 tyJ40_ok nmJ40 (Nat.le_of_ble_eq_true rfl) q2219 (fun _ h => h) rfl rfl rfl dJ40_addEntryToEmptyMap_23 hw (fun M7 hw => ?_)
  refine G_aload_n (pc := 26) (i := 0) hC dJ40_addEntryToEmptyMap_26 rfl rfl ?_
  refine G_dup (pc := 27) hC dJ40_addEntryToEmptyMap_27 (rf_cat _) ?_
  refine G_getI (pc := 28) (ci := 30) (C := RJ40) (T := TJ40) (N := 9) (f := 5) hC rfl in_J40 (Nat.le_of_ble_eq_true rfl) q2220 (fun _ h => h) dJ40_addEntryToEmptyMap_28 hw (fun x8 hw => ?_)
  refine G_iconst (pc := 31) (v := 1) hC dJ40_addEntryToEmptyMap_31 (by decide) ?_
  refine G_iadd (pc := 32) hC dJ40_addEntryToEmptyMap_32 ?_
  refine G_put (pc := 33) (ci := 30) (C := RJ40) (T := TJ40) (N := 9) (f := 5) tyJ40 hC rfl in_J40 tyJ40_ok nmJ40 (Nat.le_of_ble_eq_true rfl) q2220 (fun _ h => h) rfl rfl rfl dJ40_addEntryToEmptyMap_33 hw (fun M9 hw => ?_)
  exact G_ret (pc := 36) hC hQ dJ40_addEntryToEmptyMap_36 hw
theorem hdK_J21_requireNonNull : yJ21_requireNonNull.cls = "java/util/Objects" ∧ yJ21_requireNonNull.cls ≠ "java/lang/invoke/MethodHandle" ∧ yJ21_requireNonNull.cls ≠ "java/lang/invoke/VarHandle" ∧ (parseMethodDescriptor yJ21_requireNonNull.desc).map (fun d => d.parameters.length) = some 1 := by decide +kernel
theorem hdK_J40_addEntry : yJ40_addEntry.cls = "java/util/TreeMap" ∧ yJ40_addEntry.cls ≠ "java/lang/invoke/MethodHandle" ∧ yJ40_addEntry.cls ≠ "java/lang/invoke/VarHandle" ∧ (parseMethodDescriptor yJ40_addEntry.desc).map (fun d => d.parameters.length) = some 4 := by decide +kernel
theorem hdK_J40_addEntryToEmptyMap : yJ40_addEntryToEmptyMap.cls = "java/util/TreeMap" ∧ yJ40_addEntryToEmptyMap.cls ≠ "java/lang/invoke/MethodHandle" ∧ yJ40_addEntryToEmptyMap.cls ≠ "java/lang/invoke/VarHandle" ∧ (parseMethodDescriptor yJ40_addEntryToEmptyMap.desc).map (fun d => d.parameters.length) = some 2 := by decide +kernel
def w_J40_put_2_193 (g : gT) (F : Nat) (a0 : Nat) (p1 : Option Nat) (p2 : Option Nat) (p3 : Int32) (Q : Option Nat → hM → Prop) (v9 : Option Nat) (M : hM) : Prop :=
  Q v9 M
def w_J40_put_2_187 (g : gT) (F : Nat) (a0 : Nat) (p1 : Option Nat) (p2 : Option Nat) (p3 : Int32) (Q : Option Nat → hM → Prop) (v4 : Option Nat) (v9 : Option Nat) (M : hM) : Prop :=
  pV M v4 31 1 (va_rf p2) fun M1 => w_J40_put_2_193 g F a0 p1 p2 p3 Q v9 M1
def w_J40_put_2_216 (g : gT) (F : Nat) (a0 : Nat) (p1 : Option Nat) (p2 : Option Nat) (p3 : Int32) (Q : Option Nat → hM → Prop) (s0 : Option Nat) (s1 : Option Nat) (s2 : Option Nat) (s3 : Option Nat) (s4 : Int32) (M : hM) : Prop :=
  gThis M s0 30 fun b2 => w_J40_addEntry g F b2 s1 s2 s3 s4 M (fun M1 => Q none M1)
def w_J40_put_2_201 (g : gT) (F : Nat) (a0 : Nat) (p1 : Option Nat) (p2 : Option Nat) (p3 : Int32) (Q : Option Nat → hM → Prop) (v5 : Int32) (v6 : Option Nat) (M : hM) : Prop :=
  ((0 ≤ v5 → w_J40_put_2_216 g F a0 p1 p2 p3 Q (some a0) p1 p2 v6 (0 : Int32) M) ∧ (¬ (0 ≤ v5) → w_J40_put_2_216 g F a0 p1 p2 p3 Q (some a0) p1 p2 v6 (1 : Int32) M))
def w_J40_put_2_196 (g : gT) (F : Nat) (a0 : Nat) (p1 : Option Nat) (p2 : Option Nat) (p3 : Int32) (Q : Option Nat → hM → Prop) (K123 : (Option Nat) → (Option Nat) → hM → Prop) (v4 : Option Nat) (v5 : Int32) (v6 : Option Nat) (v8 : Option Nat) (M : hM) : Prop :=
  ((¬ v4 = none → K123 v4 v8 M) ∧ (v4 = none → w_J40_put_2_201 g F a0 p1 p2 p3 Q v5 v6 M))
def w_J40_put_2_123 (g : gT) (F : Nat) (a0 : Nat) (p1 : Option Nat) (p2 : Option Nat) (p3 : Int32) (Q : Option Nat → hM → Prop) : Nat → (Option Nat) → (Option Nat) → hM → Prop
  | 0, _, _, _ => False
  | n + 1, v4, v8, M => gF M v4 31 0 fun x1 => gBx g M v8 fun b3 => w_J19_compareTo g F b3 x1 M (fun x4 M2 => ((0 ≤ x4 → ((x4 ≤ 0 → gF M2 v4 31 1 fun x5 => ((¬ p3 = 0 → w_J40_put_2_187 g F a0 p1 p2 p3 Q v4 x5 M2) ∧ (p3 = 0 → ((¬ x5 = none → w_J40_put_2_193 g F a0 p1 p2 p3 Q x5 M2) ∧ (x5 = none → w_J40_put_2_187 g F a0 p1 p2 p3 Q v4 x5 M2))))) ∧ (¬ (x4 ≤ 0) → gF M2 v4 31 3 fun x6 => w_J40_put_2_196 g F a0 p1 p2 p3 Q (fun v4 v8 M => w_J40_put_2_123 g F a0 p1 p2 p3 Q n v4 v8 M) x6 x4 v4 (some b3) M2))) ∧ (¬ (0 ≤ x4) → gF M2 v4 31 2 fun x7 => w_J40_put_2_196 g F a0 p1 p2 p3 Q (fun v4 v8 M => w_J40_put_2_123 g F a0 p1 p2 p3 Q n v4 v8 M) x7 x4 v4 (some b3) M2)))
def w_J40_put_2_101 (g : gT) (F : Nat) (a0 : Nat) (p1 : Option Nat) (p2 : Option Nat) (p3 : Int32) (Q : Option Nat → hM → Prop) (v8 : Option Nat) (M : hM) : Prop :=
  Q v8 M
def w_J40_put_2_95 (g : gT) (F : Nat) (a0 : Nat) (p1 : Option Nat) (p2 : Option Nat) (p3 : Int32) (Q : Option Nat → hM → Prop) (v4 : Option Nat) (v8 : Option Nat) (M : hM) : Prop :=
  pV M v4 31 1 (va_rf p2) fun M1 => w_J40_put_2_101 g F a0 p1 p2 p3 Q v8 M1
def w_J40_put_2_104 (g : gT) (F : Nat) (a0 : Nat) (p1 : Option Nat) (p2 : Option Nat) (p3 : Int32) (Q : Option Nat → hM → Prop) (K30 : (Option Nat) → (Option Nat) → hM → Prop) (v4 : Option Nat) (v5 : Int32) (v6 : Option Nat) (v7 : Option Nat) (M : hM) : Prop :=
  ((¬ v4 = none → K30 v4 v7 M) ∧ (v4 = none → w_J40_put_2_201 g F a0 p1 p2 p3 Q v5 v6 M))
def w_J40_put_2_30 (g : gT) (F : Nat) (a0 : Nat) (p1 : Option Nat) (p2 : Option Nat) (p3 : Int32) (Q : Option Nat → hM → Prop) : Nat → (Option Nat) → (Option Nat) → hM → Prop
  | 0, _, _, _ => False
  | n + 1, v4, v7, M => gF M v4 31 0 fun x1 => False
def w_J40_put_2 (g : gT) (F : Nat) (a0 : Nat) (p1 : Option Nat) (p2 : Option Nat) (p3 : Int32) (M : hM) (Q : Option Nat → hM → Prop) : Prop :=
  gF M (some a0) 30 3 fun x1 => ((¬ x1 = none → gF M (some a0) 30 2 fun x2 => ((x2 = none → w_J21_requireNonNull g F p1 M (fun x4 M3 => ckB g M3 p1 (w_J40_put_2_123 g F a0 p1 p2 p3 Q F x1 p1 M3))) ∧ (¬ x2 = none → w_J40_put_2_30 g F a0 p1 p2 p3 Q F x1 x2 M))) ∧ (x1 = none → (isC M a0 30 ∧ w_J40_addEntryToEmptyMap g F a0 p1 p2 M (fun M5 => Q none M5))))
theorem g_J40_put_2_193 {k : kT} {F : Nat} {a0 : Nat} {p1 : Option Nat} {p2 : Option Nat} {p3 : Int32} {Q : Option Nat → hM → Prop} (hJ : JK (kl k) (kg k)) (hC : CX k 10 cJ40_put_2 RJ40 (some (.object "java/lang/Object")) 6 119) (hQ : isQ k (PR Q)) (hin : (kt k).name = "put") : ∀ (v9 : Option Nat) (M : hM), w_J40_put_2_193 (kg k) F a0 p1 p2 p3 Q v9 M → GW k 10 M 193 [some (va_rf (some a0)), some (va_rf p1), some (va_rf p2), some (.int p3), none, none, none, none, none, some (va_rf v9)] [] := by
  intro v9 M hw
  refine G_aload (pc := 193) (i := 9) hC dJ40_put_2_193 rfl ?_
  exact G_aret (pc := 195) hC (Or.inl ⟨_, rfl⟩) hQ dJ40_put_2_195 hw
theorem g_J40_put_2_187 {k : kT} {F : Nat} {a0 : Nat} {p1 : Option Nat} {p2 : Option Nat} {p3 : Int32} {Q : Option Nat → hM → Prop} (hJ : JK (kl k) (kg k)) (hC : CX k 10 cJ40_put_2 RJ40 (some (.object "java/lang/Object")) 6 119) (hQ : isQ k (PR Q)) (hin : (kt k).name = "put") : ∀ (v4 : Option Nat) (v9 : Option Nat) (M : hM), w_J40_put_2_187 (kg k) F a0 p1 p2 p3 Q v4 v9 M → GW k 10 M 187 [some (va_rf (some a0)), some (va_rf p1), some (va_rf p2), some (.int p3), some (va_rf v4), none, none, none, none, some (va_rf v9)] [] := by
  intro v4 v9 M hw
  refine G_aload (pc := 187) (i := 4) hC dJ40_put_2_187 rfl ?_
  refine G_aload_n (pc := 189) (i := 2) hC dJ40_put_2_189 rfl rfl ?_
  refine G_put (pc := 190) (ci := 31) (C := RJ41) (T := TJ41) (N := 6) (f := 1) tyJ41 hC rfl in_J41 tyJ41_ok nmJ41 (Nat.le_of_ble_eq_true rfl) q2287 (fun _ h => h) rfl (nR_o _ _) (fR_o _ _) dJ40_put_2_190 hw (fun M1 hw => ?_)
  refine G_loc (lv' := [some (va_rf (some a0)), some (va_rf p1), some (va_rf p2), some (.int p3), none, none, none, none, none, some (va_rf v9)]) ⟨Or.inr rfl, Or.inr rfl, Or.inr rfl, Or.inr rfl, Or.inl rfl, Or.inr rfl, Or.inr rfl, Or.inr rfl, Or.inr rfl, Or.inr rfl, trivial⟩ ?_
  exact g_J40_put_2_193 hJ hC hQ hin  v9 M1 hw
theorem g_J40_put_2_216 {k : kT} {F : Nat} {a0 : Nat} {p1 : Option Nat} {p2 : Option Nat} {p3 : Int32} {Q : Option Nat → hM → Prop} (hJ : JK (kl k) (kg k)) (hC : CX k 10 cJ40_put_2 RJ40 (some (.object "java/lang/Object")) 6 119) (hQ : isQ k (PR Q)) (hin : (kt k).name = "put") : ∀ (s0 : Option Nat) (s1 : Option Nat) (s2 : Option Nat) (s3 : Option Nat) (s4 : Int32) (M : hM), w_J40_put_2_216 (kg k) F a0 p1 p2 p3 Q s0 s1 s2 s3 s4 M → GW k 10 M 216 [some (va_rf (some a0)), some (va_rf p1), some (va_rf p2), some (.int p3), none, none, none, none, none, none] [.int s4, va_rf s3, va_rf s2, va_rf s1, va_rf s0] := by
  intro s0 s1 s2 s3 s4 M hw
  obtain ⟨b2, rfl, hb, hw⟩ := gThis_e hw
  refine G_callV (pc := 216) (n := 4) (C := "java/util/TreeMap") (b := b2) (As := [va_rf s1, va_rf s2, va_rf s3, .int s4]) (rest := []) hC (m_J40_addEntry hJ hw) (lw_V q2307 q2309 qs31 q136 q2310) hdK_J40_addEntry (by decide) (rcv (C := RJ40) (T := TJ40) (N := 9) hC hb rfl) rfl rfl (st_c cat_e (Nat.le_of_ble_eq_true rfl)) dJ40_put_2_216 (kU fun M1 hw => ?_)
  refine G_null (pc := 219) hC dJ40_put_2_219 ?_
  exact G_aret (pc := 220) hC (Or.inl ⟨_, rfl⟩) hQ dJ40_put_2_220 hw
theorem g_J40_put_2_201 {k : kT} {F : Nat} {a0 : Nat} {p1 : Option Nat} {p2 : Option Nat} {p3 : Int32} {Q : Option Nat → hM → Prop} (hJ : JK (kl k) (kg k)) (hC : CX k 10 cJ40_put_2 RJ40 (some (.object "java/lang/Object")) 6 119) (hQ : isQ k (PR Q)) (hin : (kt k).name = "put") : ∀ (v5 : Int32) (v6 : Option Nat) (M : hM), w_J40_put_2_201 (kg k) F a0 p1 p2 p3 Q v5 v6 M → GW k 10 M 201 [some (va_rf (some a0)), some (va_rf p1), some (va_rf p2), some (.int p3), none, some (.int v5), some (va_rf v6), none, none, none] [] := by
  intro v5 v6 M hw
  refine G_aload_n (pc := 201) (i := 0) hC dJ40_put_2_201 rfl rfl ?_
  refine G_aload_n (pc := 202) (i := 1) hC dJ40_put_2_202 rfl rfl ?_
  refine G_aload_n (pc := 203) (i := 2) hC dJ40_put_2_203 rfl rfl ?_
  refine G_aload (pc := 204) (i := 6) hC dJ40_put_2_204 rfl ?_
  refine G_iload (pc := 206) (i := 5) hC dJ40_put_2_206 rfl ?_
  refine G_if_ge (pc := 208) (tgt := 215) hC dJ40_put_2_208 (by decide) (fun hc => ?_) (fun hc => ?_)
  · replace hw := hw.1 hc
    refine G_iconst (pc := 215) (v := 0) hC dJ40_put_2_215 (by decide) ?_
    refine G_loc (lv' := [some (va_rf (some a0)), some (va_rf p1), some (va_rf p2), some (.int p3), none, none, none, none, none, none]) ⟨Or.inr rfl, Or.inr rfl, Or.inr rfl, Or.inr rfl, Or.inr rfl, Or.inl rfl, Or.inl rfl, Or.inr rfl, Or.inr rfl, Or.inr rfl, trivial⟩ ?_
    exact g_J40_put_2_216 hJ hC hQ hin  (some a0) p1 p2 v6 (0 : Int32) M hw
  · replace hw := hw.2 hc
    refine G_iconst (pc := 211) (v := 1) hC dJ40_put_2_211 (by decide) ?_
    refine G_goto (pc := 212) (tgt := 216) hC dJ40_put_2_212 (by decide) ?_
    refine G_loc (lv' := [some (va_rf (some a0)), some (va_rf p1), some (va_rf p2), some (.int p3), none, none, none, none, none, none]) ⟨Or.inr rfl, Or.inr rfl, Or.inr rfl, Or.inr rfl, Or.inr rfl, Or.inl rfl, Or.inl rfl, Or.inr rfl, Or.inr rfl, Or.inr rfl, trivial⟩ ?_
    exact g_J40_put_2_216 hJ hC hQ hin  (some a0) p1 p2 v6 (1 : Int32) M hw
theorem g_J40_put_2_196 {k : kT} {F : Nat} {a0 : Nat} {p1 : Option Nat} {p2 : Option Nat} {p3 : Int32} {Q : Option Nat → hM → Prop} {K123 : (Option Nat) → (Option Nat) → hM → Prop} (hJ : JK (kl k) (kg k)) (hC : CX k 10 cJ40_put_2 RJ40 (some (.object "java/lang/Object")) 6 119) (hQ : isQ k (PR Q)) (hin : (kt k).name = "put") (hK123 : ∀ (v4 : Option Nat) (v8 : Option Nat) (M : hM), K123 v4 v8 M → GW k 10 M 123 [some (va_rf (some a0)), some (va_rf p1), some (va_rf p2), some (.int p3), some (va_rf v4), none, none, none, some (va_rf v8), none] []) : ∀ (v4 : Option Nat) (v5 : Int32) (v6 : Option Nat) (v8 : Option Nat) (M : hM), w_J40_put_2_196 (kg k) F a0 p1 p2 p3 Q K123 v4 v5 v6 v8 M → GW k 10 M 196 [some (va_rf (some a0)), some (va_rf p1), some (va_rf p2), some (.int p3), some (va_rf v4), some (.int v5), some (va_rf v6), none, some (va_rf v8), none] [] := by
  intro v4 v5 v6 v8 M hw
  refine G_aload (pc := 196) (i := 4) hC dJ40_put_2_196 rfl ?_
  refine G_ifnonnull (pc := 198) (tgt := 123) hC dJ40_put_2_198 (by decide) (fun hc => ?_) (fun hc => ?_)
  · replace hw := hw.1 hc
    refine G_loc (lv' := [some (va_rf (some a0)), some (va_rf p1), some (va_rf p2), some (.int p3), some (va_rf v4), none, none, none, some (va_rf v8), none]) ⟨Or.inr rfl, Or.inr rfl, Or.inr rfl, Or.inr rfl, Or.inr rfl, Or.inl rfl, Or.inl rfl, Or.inr rfl, Or.inr rfl, Or.inr rfl, trivial⟩ ?_
    exact hK123 v4 v8 M hw
  · replace hw := hw.2 hc
    refine G_loc (lv' := [some (va_rf (some a0)), some (va_rf p1), some (va_rf p2), some (.int p3), none, some (.int v5), some (va_rf v6), none, none, none]) ⟨Or.inr rfl, Or.inr rfl, Or.inr rfl, Or.inr rfl, Or.inl rfl, Or.inr rfl, Or.inr rfl, Or.inr rfl, Or.inl rfl, Or.inr rfl, trivial⟩ ?_
    exact g_J40_put_2_201 hJ hC hQ hin  v5 v6 M hw
theorem g_J40_put_2_123 {k : kT} {F : Nat} {a0 : Nat} {p1 : Option Nat} {p2 : Option Nat} {p3 : Int32} {Q : Option Nat → hM → Prop} (hJ : JK (kl k) (kg k)) (hC : CX k 10 cJ40_put_2 RJ40 (some (.object "java/lang/Object")) 6 119) (hQ : isQ k (PR Q)) (hin : (kt k).name = "put") : ∀ (n : Nat) (v4 : Option Nat) (v8 : Option Nat) (M : hM), w_J40_put_2_123 (kg k) F a0 p1 p2 p3 Q n v4 v8 M → GW k 10 M 123 [some (va_rf (some a0)), some (va_rf p1), some (va_rf p2), some (.int p3), some (va_rf v4), none, none, none, some (va_rf v8), none] [] := by
  intro n
  induction n with
  | zero =>
    intro v4 v8 M hw
    exact hw.elim
  | succ n ih =>
    intro v4 v8 M hw
    refine G_aload (pc := 123) (i := 4) hC dJ40_put_2_123 rfl ?_
    refine G_astore (pc := 125) (i := 6) (lw := [some (va_rf (some a0)), some (va_rf p1), some (va_rf p2), some (.int p3), some (va_rf v4), none, some (va_rf v4), none, some (va_rf v8), none]) hC dJ40_put_2_125 (Nat.le_of_ble_eq_true rfl) rfl ?_
    refine G_aload (pc := 127) (i := 8) hC dJ40_put_2_127 rfl ?_
    refine G_aload (pc := 129) (i := 4) hC dJ40_put_2_129 rfl ?_
    refine G_getF (pc := 131) (ci := 31) (C := RJ41) (T := TJ41) (N := 6) (f := 0) hC rfl in_J41 (Nat.le_of_ble_eq_true rfl) q2285 (fun _ h => h) dJ40_put_2_131 hw (fun x1 hw => ?_)
    obtain ⟨b3, rfl, hb, hw⟩ := gBx_e hw
    refine G_callF (pc := 134) (n := 1) (x := ⟨"java/lang/Comparable", "compareTo", "(Ljava/lang/Object;)I"⟩) (C := "java/lang/Integer") (ci := 25) (T := TJ19) (N := 1) (b := b3) (As := [va_rf x1]) (rest := []) hC (m_J19_compareTo hJ hw) (lw_F q2260 q1931 q1933 q106 q1935) (nw_in q1930 rfl) (nw_in q1929 rfl) (nw_in q1934 rfl) (nw_in q1932 rfl) (nw_in q1678 rfl) rfl (rcvB hJ.1 hC hb) (by decide +kernel) (by decide) rfl rfl (st_c cat_e (Nat.le_of_ble_eq_true rfl)) dJ40_put_2_134 (kI fun x4 M2 hw => ?_)
    refine G_istore (pc := 139) (i := 5) (lw := [some (va_rf (some a0)), some (va_rf p1), some (va_rf p2), some (.int p3), some (va_rf v4), some (.int x4), some (va_rf v4), none, some (va_rf (some b3)), none]) hC dJ40_put_2_139 (Nat.le_of_ble_eq_true rfl) rfl ?_
    refine G_iload (pc := 141) (i := 5) hC dJ40_put_2_141 rfl ?_
    refine G_if_ge (pc := 143) (tgt := 156) hC dJ40_put_2_143 (by decide) (fun hc => ?_) (fun hc => ?_)
    · replace hw := hw.1 hc
      refine G_iload (pc := 156) (i := 5) hC dJ40_put_2_156 rfl ?_
      refine G_if_le (pc := 158) (tgt := 171) hC dJ40_put_2_158 (by decide) (fun hc => ?_) (fun hc => ?_)
      · replace hw := hw.1 hc
        refine G_aload (pc := 171) (i := 4) hC dJ40_put_2_171 rfl ?_
        refine G_getF (pc := 173) (ci := 31) (C := RJ41) (T := TJ41) (N := 6) (f := 1) hC rfl in_J41 (Nat.le_of_ble_eq_true rfl) q2287 (fun _ h => h) dJ40_put_2_173 hw (fun x5 hw => ?_)
        refine G_astore (pc := 176) (i := 9) (lw := [some (va_rf (some a0)), some (va_rf p1), some (va_rf p2), some (.int p3), some (va_rf v4), some (.int x4), some (va_rf v4), none, some (va_rf (some b3)), some (va_rf x5)]) hC dJ40_put_2_176 (Nat.le_of_ble_eq_true rfl) rfl ?_
        refine G_iload_n (pc := 178) (i := 3) hC dJ40_put_2_178 rfl rfl ?_
        refine G_if_ne (pc := 179) (tgt := 187) hC dJ40_put_2_179 (by decide) (fun hc => ?_) (fun hc => ?_)
        · replace hw := hw.1 hc
          refine G_loc (lv' := [some (va_rf (some a0)), some (va_rf p1), some (va_rf p2), some (.int p3), some (va_rf v4), none, none, none, none, some (va_rf x5)]) ⟨Or.inr rfl, Or.inr rfl, Or.inr rfl, Or.inr rfl, Or.inr rfl, Or.inl rfl, Or.inl rfl, Or.inr rfl, Or.inl rfl, Or.inr rfl, trivial⟩ ?_
          exact g_J40_put_2_187 hJ hC hQ hin  v4 x5 M2 hw
        · replace hw := hw.2 hc
          refine G_aload (pc := 182) (i := 9) hC dJ40_put_2_182 rfl ?_
          refine G_ifnonnull (pc := 184) (tgt := 193) hC dJ40_put_2_184 (by decide) (fun hc => ?_) (fun hc => ?_)
          · replace hw := hw.1 hc
            refine G_loc (lv' := [some (va_rf (some a0)), some (va_rf p1), some (va_rf p2), some (.int p3), none, none, none, none, none, some (va_rf x5)]) ⟨Or.inr rfl, Or.inr rfl, Or.inr rfl, Or.inr rfl, Or.inl rfl, Or.inl rfl, Or.inl rfl, Or.inr rfl, Or.inl rfl, Or.inr rfl, trivial⟩ ?_
            exact g_J40_put_2_193 hJ hC hQ hin  x5 M2 hw
          · replace hw := hw.2 hc
            refine G_loc (lv' := [some (va_rf (some a0)), some (va_rf p1), some (va_rf p2), some (.int p3), some (va_rf v4), none, none, none, none, some (va_rf x5)]) ⟨Or.inr rfl, Or.inr rfl, Or.inr rfl, Or.inr rfl, Or.inr rfl, Or.inl rfl, Or.inl rfl, Or.inr rfl, Or.inl rfl, Or.inr rfl, trivial⟩ ?_
            exact g_J40_put_2_187 hJ hC hQ hin  v4 x5 M2 hw
      · replace hw := hw.2 hc
        refine G_aload (pc := 161) (i := 4) hC dJ40_put_2_161 rfl ?_
        refine G_getF (pc := 163) (ci := 31) (C := RJ41) (T := TJ41) (N := 6) (f := 3) hC rfl in_J41 (Nat.le_of_ble_eq_true rfl) q2289 (fun _ h => h) dJ40_put_2_163 hw (fun x6 hw => ?_)
        refine G_astore (pc := 166) (i := 4) (lw := [some (va_rf (some a0)), some (va_rf p1), some (va_rf p2), some (.int p3), some (va_rf x6), some (.int x4), some (va_rf v4), none, some (va_rf (some b3)), none]) hC dJ40_put_2_166 (Nat.le_of_ble_eq_true rfl) rfl ?_
        refine G_goto (pc := 168) (tgt := 196) hC dJ40_put_2_168 (by decide) ?_
        exact g_J40_put_2_196 hJ hC hQ hin ih  x6 x4 v4 (some b3) M2 hw
    · replace hw := hw.2 hc
      refine G_aload (pc := 146) (i := 4) hC dJ40_put_2_146 rfl ?_
      refine G_getF (pc := 148) (ci := 31) (C := RJ41) (T := TJ41) (N := 6) (f := 2) hC rfl in_J41 (Nat.le_of_ble_eq_true rfl) q2288 (fun _ h => h) dJ40_put_2_148 hw (fun x7 hw => ?_)
      refine G_astore (pc := 151) (i := 4) (lw := [some (va_rf (some a0)), some (va_rf p1), some (va_rf p2), some (.int p3), some (va_rf x7), some (.int x4), some (va_rf v4), none, some (va_rf (some b3)), none]) hC dJ40_put_2_151 (Nat.le_of_ble_eq_true rfl) rfl ?_
      refine G_goto (pc := 153) (tgt := 196) hC dJ40_put_2_153 (by decide) ?_
      exact g_J40_put_2_196 hJ hC hQ hin ih  x7 x4 v4 (some b3) M2 hw
theorem g_J40_put_2_101 {k : kT} {F : Nat} {a0 : Nat} {p1 : Option Nat} {p2 : Option Nat} {p3 : Int32} {Q : Option Nat → hM → Prop} (hJ : JK (kl k) (kg k)) (hC : CX k 10 cJ40_put_2 RJ40 (some (.object "java/lang/Object")) 6 119) (hQ : isQ k (PR Q)) (hin : (kt k).name = "put") : ∀ (v8 : Option Nat) (M : hM), w_J40_put_2_101 (kg k) F a0 p1 p2 p3 Q v8 M → GW k 10 M 101 [some (va_rf (some a0)), some (va_rf p1), some (va_rf p2), some (.int p3), none, none, none, none, some (va_rf v8), none] [] := by
  intro v8 M hw
  refine G_aload (pc := 101) (i := 8) hC dJ40_put_2_101 rfl ?_
  exact G_aret (pc := 103) hC (Or.inl ⟨_, rfl⟩) hQ dJ40_put_2_103 hw
theorem g_J40_put_2_95 {k : kT} {F : Nat} {a0 : Nat} {p1 : Option Nat} {p2 : Option Nat} {p3 : Int32} {Q : Option Nat → hM → Prop} (hJ : JK (kl k) (kg k)) (hC : CX k 10 cJ40_put_2 RJ40 (some (.object "java/lang/Object")) 6 119) (hQ : isQ k (PR Q)) (hin : (kt k).name = "put") : ∀ (v4 : Option Nat) (v8 : Option Nat) (M : hM), w_J40_put_2_95 (kg k) F a0 p1 p2 p3 Q v4 v8 M → GW k 10 M 95 [some (va_rf (some a0)), some (va_rf p1), some (va_rf p2), some (.int p3), some (va_rf v4), none, none, none, some (va_rf v8), none] [] := by
  intro v4 v8 M hw
  refine G_aload (pc := 95) (i := 4) hC dJ40_put_2_95 rfl ?_
  refine G_aload_n (pc := 97) (i := 2) hC dJ40_put_2_97 rfl rfl ?_
  refine G_put (pc := 98) (ci := 31) (C := RJ41) (T := TJ41) (N := 6) (f := 1) tyJ41 hC rfl in_J41 tyJ41_ok nmJ41 (Nat.le_of_ble_eq_true rfl) q2287 (fun _ h => h) rfl (nR_o _ _) (fR_o _ _) dJ40_put_2_98 hw (fun M1 hw => ?_)
  refine G_loc (lv' := [some (va_rf (some a0)), some (va_rf p1), some (va_rf p2), some (.int p3), none, none, none, none, some (va_rf v8), none]) ⟨Or.inr rfl, Or.inr rfl, Or.inr rfl, Or.inr rfl, Or.inl rfl, Or.inr rfl, Or.inr rfl, Or.inr rfl, Or.inr rfl, Or.inr rfl, trivial⟩ ?_
  exact g_J40_put_2_101 hJ hC hQ hin  v8 M1 hw
theorem g_J40_put_2_104 {k : kT} {F : Nat} {a0 : Nat} {p1 : Option Nat} {p2 : Option Nat} {p3 : Int32} {Q : Option Nat → hM → Prop} {K30 : (Option Nat) → (Option Nat) → hM → Prop} (hJ : JK (kl k) (kg k)) (hC : CX k 10 cJ40_put_2 RJ40 (some (.object "java/lang/Object")) 6 119) (hQ : isQ k (PR Q)) (hin : (kt k).name = "put") (hK30 : ∀ (v4 : Option Nat) (v7 : Option Nat) (M : hM), K30 v4 v7 M → GW k 10 M 30 [some (va_rf (some a0)), some (va_rf p1), some (va_rf p2), some (.int p3), some (va_rf v4), none, none, some (va_rf v7), none, none] []) : ∀ (v4 : Option Nat) (v5 : Int32) (v6 : Option Nat) (v7 : Option Nat) (M : hM), w_J40_put_2_104 (kg k) F a0 p1 p2 p3 Q K30 v4 v5 v6 v7 M → GW k 10 M 104 [some (va_rf (some a0)), some (va_rf p1), some (va_rf p2), some (.int p3), some (va_rf v4), some (.int v5), some (va_rf v6), some (va_rf v7), none, none] [] := by
  intro v4 v5 v6 v7 M hw
  refine G_aload (pc := 104) (i := 4) hC dJ40_put_2_104 rfl ?_
  refine G_ifnonnull (pc := 106) (tgt := 30) hC dJ40_put_2_106 (by decide) (fun hc => ?_) (fun hc => ?_)
  · replace hw := hw.1 hc
    refine G_loc (lv' := [some (va_rf (some a0)), some (va_rf p1), some (va_rf p2), some (.int p3), some (va_rf v4), none, none, some (va_rf v7), none, none]) ⟨Or.inr rfl, Or.inr rfl, Or.inr rfl, Or.inr rfl, Or.inr rfl, Or.inl rfl, Or.inl rfl, Or.inr rfl, Or.inr rfl, Or.inr rfl, trivial⟩ ?_
    exact hK30 v4 v7 M hw
  · replace hw := hw.2 hc
    refine G_goto (pc := 109) (tgt := 201) hC dJ40_put_2_109 (by decide) ?_
    refine G_loc (lv' := [some (va_rf (some a0)), some (va_rf p1), some (va_rf p2), some (.int p3), none, some (.int v5), some (va_rf v6), none, none, none]) ⟨Or.inr rfl, Or.inr rfl, Or.inr rfl, Or.inr rfl, Or.inl rfl, Or.inr rfl, Or.inr rfl, Or.inl rfl, Or.inr rfl, Or.inr rfl, trivial⟩ ?_
    exact g_J40_put_2_201 hJ hC hQ hin  v5 v6 M hw
theorem g_J40_put_2_30 {k : kT} {F : Nat} {a0 : Nat} {p1 : Option Nat} {p2 : Option Nat} {p3 : Int32} {Q : Option Nat → hM → Prop} (hJ : JK (kl k) (kg k)) (hC : CX k 10 cJ40_put_2 RJ40 (some (.object "java/lang/Object")) 6 119) (hQ : isQ k (PR Q)) (hin : (kt k).name = "put") : ∀ (n : Nat) (v4 : Option Nat) (v7 : Option Nat) (M : hM), w_J40_put_2_30 (kg k) F a0 p1 p2 p3 Q n v4 v7 M → GW k 10 M 30 [some (va_rf (some a0)), some (va_rf p1), some (va_rf p2), some (.int p3), some (va_rf v4), none, none, some (va_rf v7), none, none] [] := by
  intro n
  induction n with
  | zero =>
    intro v4 v7 M hw
    exact hw.elim
  | succ n ih =>
    intro v4 v7 M hw
    refine G_aload (pc := 30) (i := 4) hC dJ40_put_2_30 rfl ?_
    refine G_astore (pc := 32) (i := 6) (lw := [some (va_rf (some a0)), some (va_rf p1), some (va_rf p2), some (.int p3), some (va_rf v4), none, some (va_rf v4), some (va_rf v7), none, none]) hC dJ40_put_2_32 (Nat.le_of_ble_eq_true rfl) rfl ?_
    refine G_aload (pc := 34) (i := 7) hC dJ40_put_2_34 rfl ?_
    refine G_aload_n (pc := 36) (i := 1) hC dJ40_put_2_36 rfl rfl ?_
    refine G_aload (pc := 37) (i := 4) hC dJ40_put_2_37 rfl ?_
    refine G_getF (pc := 39) (ci := 31) (C := RJ41) (T := TJ41) (N := 6) (f := 0) hC rfl in_J41 (Nat.le_of_ble_eq_true rfl) q2285 (fun _ h => h) dJ40_put_2_39 hw (fun x1 hw => ?_)
    exact hw.elim
theorem m_J40_put_2 {l : Launch} {g : gT} {F : Nat} {a0 : Nat} {p1 : Option Nat} {p2 : Option Nat} {p3 : Int32} {M : hM} {Q : Option Nat → hM → Prop} (hJ : JK l g) (hw : w_J40_put_2 g F a0 p1 p2 p3 M Q) : MG l g yJ40_put_2 (ws_ yJ40_put_2 cJ40_put_2 10 (some (.object "java/lang/Object"))) 6 119 [va_rf (some a0), va_rf p1, va_rf p2, .int p3] M (PR Q) := by
  refine MG_of hJ.2.1 (by decide) (cat_r (cat_r (cat_r (cat_i cat_e)))) (Nat.le_of_ble_eq_true rfl) (fun k hl hg hin hQ hC => ?_)
  subst hl hg
  show GW k 10 M 0 [some (va_rf (some a0)), some (va_rf p1), some (va_rf p2), some (.int p3), none, none, none, none, none, none] []
  refine G_aload_n (pc := 0) (i := 0) hC dJ40_put_2_0 rfl rfl ?_
  refine G_getF (pc := 1) (ci := 30) (C := RJ40) (T := TJ40) (N := 9) (f := 3) hC rfl in_J40 (Nat.le_of_ble_eq_true rfl) q2218 (fun _ h => h) dJ40_put_2_1 hw (fun x1 hw => ?_)
  refine G_astore (pc := 4) (i := 4) (lw := [some (va_rf (some a0)), some (va_rf p1), some (va_rf p2), some (.int p3), some (va_rf x1), none, none, none, none, none]) hC dJ40_put_2_4 (Nat.le_of_ble_eq_true rfl) rfl ?_
  refine G_aload (pc := 6) (i := 4) hC dJ40_put_2_6 rfl ?_
  refine G_ifnonnull (pc := 8) (tgt := 19) hC dJ40_put_2_8 (by decide) (fun hc => ?_) (fun hc => ?_)
  · replace hw := hw.1 hc
    refine G_aload_n (pc := 19) (i := 0) hC dJ40_put_2_19 rfl rfl ?_
    refine G_getF (pc := 20) (ci := 30) (C := RJ40) (T := TJ40) (N := 9) (f := 2) hC rfl in_J40 (Nat.le_of_ble_eq_true rfl) q2217 (fun _ h => h) dJ40_put_2_20 hw (fun x2 hw => ?_)
    refine G_astore (pc := 23) (i := 7) (lw := [some (va_rf (some a0)), some (va_rf p1), some (va_rf p2), some (.int p3), some (va_rf x1), none, none, some (va_rf x2), none, none]) hC dJ40_put_2_23 (Nat.le_of_ble_eq_true rfl) rfl ?_
    refine G_aload (pc := 25) (i := 7) hC dJ40_put_2_25 rfl ?_
    refine G_ifnull (pc := 27) (tgt := 112) hC dJ40_put_2_27 (by decide) (fun hc => ?_) (fun hc => ?_)
    · replace hw := hw.1 hc
      refine G_aload_n (pc := 112) (i := 1) hC dJ40_put_2_112 rfl rfl ?_
      refine G_callS (pc := 113) (n := 1) (As := [va_rf p1]) (rest := []) hC (m_J21_requireNonNull hJ hw) (lw_S q2255 q2256 q109 q2257) hdK_J21_requireNonNull.2 (by decide) rfl rfl (st_c cat_e (Nat.le_of_ble_eq_true rfl)) dJ40_put_2_113 (kRf fun x4 M3 hw => ?_)
      refine G_pop (pc := 116) hC dJ40_put_2_116 (rf_cat _) ?_
      refine G_aload_n (pc := 117) (i := 1) hC dJ40_put_2_117 rfl rfl ?_
      obtain ⟨hb, hw⟩ := hw
      refine G_castB (pc := 118) (nm := "java/lang/Comparable") hJ.1 hC q2258 (nw_in q1678 rfl) hb dJ40_put_2_118 ?_
      refine G_astore (pc := 121) (i := 8) (lw := [some (va_rf (some a0)), some (va_rf p1), some (va_rf p2), some (.int p3), some (va_rf x1), none, none, some (va_rf x2), some (va_rf p1), none]) hC dJ40_put_2_121 (Nat.le_of_ble_eq_true rfl) rfl ?_
      refine G_loc (lv' := [some (va_rf (some a0)), some (va_rf p1), some (va_rf p2), some (.int p3), some (va_rf x1), none, none, none, some (va_rf p1), none]) ⟨Or.inr rfl, Or.inr rfl, Or.inr rfl, Or.inr rfl, Or.inr rfl, Or.inr rfl, Or.inr rfl, Or.inl rfl, Or.inr rfl, Or.inr rfl, trivial⟩ ?_
      exact g_J40_put_2_123 hJ hC hQ hin _ x1 p1 M3 hw
    · replace hw := hw.2 hc
      exact g_J40_put_2_30 hJ hC hQ hin _ x1 x2 M hw
  · replace hw := hw.2 hc
    refine G_aload_n (pc := 11) (i := 0) hC dJ40_put_2_11 rfl rfl ?_
    refine G_aload_n (pc := 12) (i := 1) hC dJ40_put_2_12 rfl rfl ?_
    refine G_aload_n (pc := 13) (i := 2) hC dJ40_put_2_13 rfl rfl ?_
    obtain ⟨hb, hw⟩ := hw
    refine G_callV (pc := 14) (n := 2) (C := "java/util/TreeMap") (b := a0) (As := [va_rf p1, va_rf p2]) (rest := []) hC (m_J40_addEntryToEmptyMap hJ hw) (lw_V q2270 q2272 qs30 q136 q2273) hdK_J40_addEntryToEmptyMap (by decide) (rcv (C := RJ40) (T := TJ40) (N := 9) hC hb rfl) rfl rfl (st_c cat_e (Nat.le_of_ble_eq_true rfl)) dJ40_put_2_14 (kU fun M5 hw => ?_)
    refine G_null (pc := 17) hC dJ40_put_2_17 ?_
    exact G_aret (pc := 18) hC (Or.inl ⟨_, rfl⟩) hQ dJ40_put_2_18 hw
theorem hdK_J40_put_2 : yJ40_put_2.cls = "java/util/TreeMap" ∧ yJ40_put_2.cls ≠ "java/lang/invoke/MethodHandle" ∧ yJ40_put_2.cls ≠ "java/lang/invoke/VarHandle" ∧ (parseMethodDescriptor yJ40_put_2.desc).map (fun d => d.parameters.length) = some 3 := by decide +kernel
def w_J40_put (g : gT) (F : Nat) (a0 : Nat) (p1 : Option Nat) (p2 : Option Nat) (M : hM) (Q : Option Nat → hM → Prop) : Prop :=
  (isC M a0 30 ∧ w_J40_put_2 g F a0 p1 p2 (1 : Int32) M (fun x2 M1 => Q x2 M1))
theorem m_J40_put {l : Launch} {g : gT} {F : Nat} {a0 : Nat} {p1 : Option Nat} {p2 : Option Nat} {M : hM} {Q : Option Nat → hM → Prop} (hJ : JK l g) (hw : w_J40_put g F a0 p1 p2 M Q) : MG l g yJ40_put (ws_ yJ40_put cJ40_put 3 (some (.object "java/lang/Object"))) 7 148 [va_rf (some a0), va_rf p1, va_rf p2] M (PR Q) := by
  refine MG_of hJ.2.1 (by decide) (cat_r (cat_r (cat_r cat_e))) (Nat.le_of_ble_eq_true rfl) (fun k hl hg hin hQ hC => ?_)
  subst hl hg
  show GW k 3 M 0 [some (va_rf (some a0)), some (va_rf p1), some (va_rf p2)] []
  refine G_aload_n (pc := 0) (i := 0) hC dJ40_put_0 rfl rfl ?_
  refine G_aload_n (pc := 1) (i := 1) hC dJ40_put_1 rfl rfl ?_
  refine G_aload_n (pc := 2) (i := 2) hC dJ40_put_2 rfl rfl ?_
  refine G_iconst (pc := 3) (v := 1) hC dJ40_put_3 (by decide) ?_
  obtain ⟨hb, hw⟩ := hw
  refine G_callV (pc := 4) (n := 3) (C := "java/util/TreeMap") (b := a0) (As := [va_rf p1, va_rf p2, .int (1 : Int32)]) (rest := []) hC (m_J40_put_2 hJ hw) (lw_V q2266 q2268 qs29 q136 q2269) hdK_J40_put_2 (by decide) (rcv (C := RJ40) (T := TJ40) (N := 9) hC hb rfl) rfl rfl (st_c cat_e (Nat.le_of_ble_eq_true rfl)) dJ40_put_4 (kRf fun x2 M1 hw => ?_)
  exact G_aret (pc := 7) hC (Or.inl ⟨_, rfl⟩) hQ dJ40_put_7 hw
def w_J40_getEntryUsingComparator_72 (g : gT) (F : Nat) (a0 : Nat) (p1 : Option Nat) (Q : Option Nat → hM → Prop) (M : hM) : Prop :=
  Q none M
def w_J40_getEntryUsingComparator_69 (g : gT) (F : Nat) (a0 : Nat) (p1 : Option Nat) (Q : Option Nat → hM → Prop) (K17 : (Option Nat) → (Option Nat) → (Option Nat) → hM → Prop) (v2 : Option Nat) (v3 : Option Nat) (v4 : Option Nat) (M : hM) : Prop :=
  K17 v2 v3 v4 M
def w_J40_getEntryUsingComparator_17 (g : gT) (F : Nat) (a0 : Nat) (p1 : Option Nat) (Q : Option Nat → hM → Prop) : Nat → (Option Nat) → (Option Nat) → (Option Nat) → hM → Prop
  | 0, _, _, _, _ => False
  | n + 1, v2, v3, v4, M => ((v4 = none → w_J40_getEntryUsingComparator_72 g F a0 p1 Q M) ∧ (¬ v4 = none → gF M v4 31 0 fun x1 => False))
def w_J40_getEntryUsingComparator (g : gT) (F : Nat) (a0 : Nat) (p1 : Option Nat) (M : hM) (Q : Option Nat → hM → Prop) : Prop :=
  gF M (some a0) 30 2 fun x1 => ((x1 = none → w_J40_getEntryUsingComparator_72 g F a0 p1 Q M) ∧ (¬ x1 = none → gF M (some a0) 30 3 fun x2 => w_J40_getEntryUsingComparator_17 g F a0 p1 Q F p1 x1 x2 M))
theorem g_J40_getEntryUsingComparator_72 {k : kT} {F : Nat} {a0 : Nat} {p1 : Option Nat} {Q : Option Nat → hM → Prop} (hJ : JK (kl k) (kg k)) (hC : CX k 6 cJ40_getEntryUsingComparator RJ40 (some (.object "java/util/TreeMap$Entry")) 1 12) (hQ : isQ k (PR Q)) (hin : (kt k).name = "getEntryUsingComparator") : ∀  (M : hM), w_J40_getEntryUsingComparator_72 (kg k) F a0 p1 Q  M → GW k 6 M 72 [some (va_rf (some a0)), some (va_rf p1), none, none, none, none] [] := by
  intro  M hw
  refine G_null (pc := 72) hC dJ40_getEntryUsingComparator_72 ?_
  exact G_aret (pc := 73) hC (Or.inl ⟨_, rfl⟩) hQ dJ40_getEntryUsingComparator_73 hw
theorem g_J40_getEntryUsingComparator_69 {k : kT} {F : Nat} {a0 : Nat} {p1 : Option Nat} {Q : Option Nat → hM → Prop} {K17 : (Option Nat) → (Option Nat) → (Option Nat) → hM → Prop} (hJ : JK (kl k) (kg k)) (hC : CX k 6 cJ40_getEntryUsingComparator RJ40 (some (.object "java/util/TreeMap$Entry")) 1 12) (hQ : isQ k (PR Q)) (hin : (kt k).name = "getEntryUsingComparator") (hK17 : ∀ (v2 : Option Nat) (v3 : Option Nat) (v4 : Option Nat) (M : hM), K17 v2 v3 v4 M → GW k 6 M 17 [some (va_rf (some a0)), some (va_rf p1), some (va_rf v2), some (va_rf v3), some (va_rf v4), none] []) : ∀ (v2 : Option Nat) (v3 : Option Nat) (v4 : Option Nat) (M : hM), w_J40_getEntryUsingComparator_69 (kg k) F a0 p1 Q K17 v2 v3 v4 M → GW k 6 M 69 [some (va_rf (some a0)), some (va_rf p1), some (va_rf v2), some (va_rf v3), some (va_rf v4), none] [] := by
  intro v2 v3 v4 M hw
  refine G_goto (pc := 69) (tgt := 17) hC dJ40_getEntryUsingComparator_69 (by decide) ?_
  exact hK17 v2 v3 v4 M hw
theorem g_J40_getEntryUsingComparator_17 {k : kT} {F : Nat} {a0 : Nat} {p1 : Option Nat} {Q : Option Nat → hM → Prop} (hJ : JK (kl k) (kg k)) (hC : CX k 6 cJ40_getEntryUsingComparator RJ40 (some (.object "java/util/TreeMap$Entry")) 1 12) (hQ : isQ k (PR Q)) (hin : (kt k).name = "getEntryUsingComparator") : ∀ (n : Nat) (v2 : Option Nat) (v3 : Option Nat) (v4 : Option Nat) (M : hM), w_J40_getEntryUsingComparator_17 (kg k) F a0 p1 Q n v2 v3 v4 M → GW k 6 M 17 [some (va_rf (some a0)), some (va_rf p1), some (va_rf v2), some (va_rf v3), some (va_rf v4), none] [] := by
  intro n
  induction n with
  | zero =>
    intro v2 v3 v4 M hw
    exact hw.elim
  | succ n ih =>
    intro v2 v3 v4 M hw
    refine G_aload (pc := 17) (i := 4) hC dJ40_getEntryUsingComparator_17 rfl ?_
    refine G_ifnull (pc := 19) (tgt := 72) hC dJ40_getEntryUsingComparator_19 (by decide) (fun hc => ?_) (fun hc => ?_)
    · replace hw := hw.1 hc
      refine G_loc (lv' := [some (va_rf (some a0)), some (va_rf p1), none, none, none, none]) ⟨Or.inr rfl, Or.inr rfl, Or.inl rfl, Or.inl rfl, Or.inl rfl, Or.inr rfl, trivial⟩ ?_
      exact g_J40_getEntryUsingComparator_72 hJ hC hQ hin   M hw
    · replace hw := hw.2 hc
      refine G_aload_n (pc := 22) (i := 3) hC dJ40_getEntryUsingComparator_22 rfl rfl ?_
      refine G_aload_n (pc := 23) (i := 2) hC dJ40_getEntryUsingComparator_23 rfl rfl ?_
      refine G_aload (pc := 24) (i := 4) hC dJ40_getEntryUsingComparator_24 rfl ?_
      refine G_getF (pc := 26) (ci := 31) (C := RJ41) (T := TJ41) (N := 6) (f := 0) hC rfl in_J41 (Nat.le_of_ble_eq_true rfl) q2285 (fun _ h => h) dJ40_getEntryUsingComparator_26 hw (fun x1 hw => ?_)
      exact hw.elim
theorem m_J40_getEntryUsingComparator {l : Launch} {g : gT} {F : Nat} {a0 : Nat} {p1 : Option Nat} {M : hM} {Q : Option Nat → hM → Prop} (hJ : JK l g) (hw : w_J40_getEntryUsingComparator g F a0 p1 M Q) : MG l g yJ40_getEntryUsingComparator (ws_ yJ40_getEntryUsingComparator cJ40_getEntryUsingComparator 6 (some (.object "java/util/TreeMap$Entry"))) 1 12 [va_rf (some a0), va_rf p1] M (PR Q) := by
  refine MG_of hJ.2.1 (by decide) (cat_r (cat_r cat_e)) (Nat.le_of_ble_eq_true rfl) (fun k hl hg hin hQ hC => ?_)
  subst hl hg
  show GW k 6 M 0 [some (va_rf (some a0)), some (va_rf p1), none, none, none, none] []
  refine G_aload_n (pc := 0) (i := 1) hC dJ40_getEntryUsingComparator_0 rfl rfl ?_
  refine G_astore_n (pc := 1) (i := 2) (lw := [some (va_rf (some a0)), some (va_rf p1), some (va_rf p1), none, none, none]) hC dJ40_getEntryUsingComparator_1 rfl (Nat.le_of_ble_eq_true rfl) rfl ?_
  refine G_aload_n (pc := 2) (i := 0) hC dJ40_getEntryUsingComparator_2 rfl rfl ?_
  refine G_getF (pc := 3) (ci := 30) (C := RJ40) (T := TJ40) (N := 9) (f := 2) hC rfl in_J40 (Nat.le_of_ble_eq_true rfl) q2217 (fun _ h => h) dJ40_getEntryUsingComparator_3 hw (fun x1 hw => ?_)
  refine G_astore_n (pc := 6) (i := 3) (lw := [some (va_rf (some a0)), some (va_rf p1), some (va_rf p1), some (va_rf x1), none, none]) hC dJ40_getEntryUsingComparator_6 rfl (Nat.le_of_ble_eq_true rfl) rfl ?_
  refine G_aload_n (pc := 7) (i := 3) hC dJ40_getEntryUsingComparator_7 rfl rfl ?_
  refine G_ifnull (pc := 8) (tgt := 72) hC dJ40_getEntryUsingComparator_8 (by decide) (fun hc => ?_) (fun hc => ?_)
  · replace hw := hw.1 hc
    refine G_loc (lv' := [some (va_rf (some a0)), some (va_rf p1), none, none, none, none]) ⟨Or.inr rfl, Or.inr rfl, Or.inl rfl, Or.inl rfl, Or.inr rfl, Or.inr rfl, trivial⟩ ?_
    exact g_J40_getEntryUsingComparator_72 hJ hC hQ hin   M hw
  · replace hw := hw.2 hc
    refine G_aload_n (pc := 11) (i := 0) hC dJ40_getEntryUsingComparator_11 rfl rfl ?_
    refine G_getF (pc := 12) (ci := 30) (C := RJ40) (T := TJ40) (N := 9) (f := 3) hC rfl in_J40 (Nat.le_of_ble_eq_true rfl) q2218 (fun _ h => h) dJ40_getEntryUsingComparator_12 hw (fun x2 hw => ?_)
    refine G_astore (pc := 15) (i := 4) (lw := [some (va_rf (some a0)), some (va_rf p1), some (va_rf p1), some (va_rf x1), some (va_rf x2), none]) hC dJ40_getEntryUsingComparator_15 (Nat.le_of_ble_eq_true rfl) rfl ?_
    exact g_J40_getEntryUsingComparator_17 hJ hC hQ hin _ p1 x1 x2 M hw
theorem hdK_J40_getEntryUsingComparator : yJ40_getEntryUsingComparator.cls = "java/util/TreeMap" ∧ yJ40_getEntryUsingComparator.cls ≠ "java/lang/invoke/MethodHandle" ∧ yJ40_getEntryUsingComparator.cls ≠ "java/lang/invoke/VarHandle" ∧ (parseMethodDescriptor yJ40_getEntryUsingComparator.desc).map (fun d => d.parameters.length) = some 1 := by decide +kernel
def w_J40_getEntry_72 (g : gT) (F : Nat) (a0 : Nat) (p1 : Option Nat) (Q : Option Nat → hM → Prop) (K28 : (Option Nat) → (Option Nat) → hM → Prop) (v2 : Option Nat) (v3 : Option Nat) (M : hM) : Prop :=
  K28 v2 v3 M
def w_J40_getEntry_28 (g : gT) (F : Nat) (a0 : Nat) (p1 : Option Nat) (Q : Option Nat → hM → Prop) : Nat → (Option Nat) → (Option Nat) → hM → Prop
  | 0, _, _, _ => False
  | n + 1, v2, v3, M => ((v3 = none → Q none M) ∧ (¬ v3 = none → gF M v3 31 0 fun x1 => gBx g M v2 fun b3 => w_J19_compareTo g F b3 x1 M (fun x4 M2 => ((0 ≤ x4 → ((x4 ≤ 0 → Q v3 M2) ∧ (¬ (x4 ≤ 0) → gF M2 v3 31 3 fun x5 => w_J40_getEntry_72 g F a0 p1 Q (fun v2 v3 M => w_J40_getEntry_28 g F a0 p1 Q n v2 v3 M) (some b3) x5 M2))) ∧ (¬ (0 ≤ x4) → gF M2 v3 31 2 fun x6 => w_J40_getEntry_72 g F a0 p1 Q (fun v2 v3 M => w_J40_getEntry_28 g F a0 p1 Q n v2 v3 M) (some b3) x6 M2)))))
def w_J40_getEntry (g : gT) (F : Nat) (a0 : Nat) (p1 : Option Nat) (M : hM) (Q : Option Nat → hM → Prop) : Prop :=
  gF M (some a0) 30 2 fun x1 => ((x1 = none → w_J21_requireNonNull g F p1 M (fun x3 M2 => ckB g M2 p1 (gF M2 (some a0) 30 3 fun x4 => w_J40_getEntry_28 g F a0 p1 Q F p1 x4 M2))) ∧ (¬ x1 = none → (isC M a0 30 ∧ w_J40_getEntryUsingComparator g F a0 p1 M (fun x6 M5 => Q x6 M5))))
theorem g_J40_getEntry_72 {k : kT} {F : Nat} {a0 : Nat} {p1 : Option Nat} {Q : Option Nat → hM → Prop} {K28 : (Option Nat) → (Option Nat) → hM → Prop} (hJ : JK (kl k) (kg k)) (hC : CX k 5 cJ40_getEntry RJ40 (some (.object "java/util/TreeMap$Entry")) 4 75) (hQ : isQ k (PR Q)) (hin : (kt k).name = "getEntry") (hK28 : ∀ (v2 : Option Nat) (v3 : Option Nat) (M : hM), K28 v2 v3 M → GW k 5 M 28 [some (va_rf (some a0)), some (va_rf p1), some (va_rf v2), some (va_rf v3), none] []) : ∀ (v2 : Option Nat) (v3 : Option Nat) (M : hM), w_J40_getEntry_72 (kg k) F a0 p1 Q K28 v2 v3 M → GW k 5 M 72 [some (va_rf (some a0)), some (va_rf p1), some (va_rf v2), some (va_rf v3), none] [] := by
  intro v2 v3 M hw
  refine G_goto (pc := 72) (tgt := 28) hC dJ40_getEntry_72 (by decide) ?_
  exact hK28 v2 v3 M hw
theorem g_J40_getEntry_28 {k : kT} {F : Nat} {a0 : Nat} {p1 : Option Nat} {Q : Option Nat → hM → Prop} (hJ : JK (kl k) (kg k)) (hC : CX k 5 cJ40_getEntry RJ40 (some (.object "java/util/TreeMap$Entry")) 4 75) (hQ : isQ k (PR Q)) (hin : (kt k).name = "getEntry") : ∀ (n : Nat) (v2 : Option Nat) (v3 : Option Nat) (M : hM), w_J40_getEntry_28 (kg k) F a0 p1 Q n v2 v3 M → GW k 5 M 28 [some (va_rf (some a0)), some (va_rf p1), some (va_rf v2), some (va_rf v3), none] [] := by
  intro n
  induction n with
  | zero =>
    intro v2 v3 M hw
    exact hw.elim
  | succ n ih =>
    intro v2 v3 M hw
    refine G_aload_n (pc := 28) (i := 3) hC dJ40_getEntry_28 rfl rfl ?_
    refine G_ifnull (pc := 29) (tgt := 75) hC dJ40_getEntry_29 (by decide) (fun hc => ?_) (fun hc => ?_)
    · replace hw := hw.1 hc
      refine G_null (pc := 75) hC dJ40_getEntry_75 ?_
      exact G_aret (pc := 76) hC (Or.inl ⟨_, rfl⟩) hQ dJ40_getEntry_76 hw
    · replace hw := hw.2 hc
      refine G_aload_n (pc := 32) (i := 2) hC dJ40_getEntry_32 rfl rfl ?_
      refine G_aload_n (pc := 33) (i := 3) hC dJ40_getEntry_33 rfl rfl ?_
      refine G_getF (pc := 34) (ci := 31) (C := RJ41) (T := TJ41) (N := 6) (f := 0) hC rfl in_J41 (Nat.le_of_ble_eq_true rfl) q2285 (fun _ h => h) dJ40_getEntry_34 hw (fun x1 hw => ?_)
      obtain ⟨b3, rfl, hb, hw⟩ := gBx_e hw
      refine G_callF (pc := 37) (n := 1) (x := ⟨"java/lang/Comparable", "compareTo", "(Ljava/lang/Object;)I"⟩) (C := "java/lang/Integer") (ci := 25) (T := TJ19) (N := 1) (b := b3) (As := [va_rf x1]) (rest := []) hC (m_J19_compareTo hJ hw) (lw_F q2260 q1931 q1933 q106 q1935) (nw_in q1930 rfl) (nw_in q1929 rfl) (nw_in q1934 rfl) (nw_in q1932 rfl) (nw_in q1678 rfl) rfl (rcvB hJ.1 hC hb) (by decide +kernel) (by decide) rfl rfl (st_c cat_e (Nat.le_of_ble_eq_true rfl)) dJ40_getEntry_37 (kI fun x4 M2 hw => ?_)
      refine G_istore (pc := 42) (i := 4) (lw := [some (va_rf (some a0)), some (va_rf p1), some (va_rf (some b3)), some (va_rf v3), some (.int x4)]) hC dJ40_getEntry_42 (Nat.le_of_ble_eq_true rfl) rfl ?_
      refine G_iload (pc := 44) (i := 4) hC dJ40_getEntry_44 rfl ?_
      refine G_if_ge (pc := 46) (tgt := 57) hC dJ40_getEntry_46 (by decide) (fun hc => ?_) (fun hc => ?_)
      · replace hw := hw.1 hc
        refine G_iload (pc := 57) (i := 4) hC dJ40_getEntry_57 rfl ?_
        refine G_if_le (pc := 59) (tgt := 70) hC dJ40_getEntry_59 (by decide) (fun hc => ?_) (fun hc => ?_)
        · replace hw := hw.1 hc
          refine G_aload_n (pc := 70) (i := 3) hC dJ40_getEntry_70 rfl rfl ?_
          exact G_aret (pc := 71) hC (Or.inl ⟨_, rfl⟩) hQ dJ40_getEntry_71 hw
        · replace hw := hw.2 hc
          refine G_aload_n (pc := 62) (i := 3) hC dJ40_getEntry_62 rfl rfl ?_
          refine G_getF (pc := 63) (ci := 31) (C := RJ41) (T := TJ41) (N := 6) (f := 3) hC rfl in_J41 (Nat.le_of_ble_eq_true rfl) q2289 (fun _ h => h) dJ40_getEntry_63 hw (fun x5 hw => ?_)
          refine G_astore_n (pc := 66) (i := 3) (lw := [some (va_rf (some a0)), some (va_rf p1), some (va_rf (some b3)), some (va_rf x5), some (.int x4)]) hC dJ40_getEntry_66 rfl (Nat.le_of_ble_eq_true rfl) rfl ?_
          refine G_goto (pc := 67) (tgt := 72) hC dJ40_getEntry_67 (by decide) ?_
          refine G_loc (lv' := [some (va_rf (some a0)), some (va_rf p1), some (va_rf (some b3)), some (va_rf x5), none]) ⟨Or.inr rfl, Or.inr rfl, Or.inr rfl, Or.inr rfl, Or.inl rfl, trivial⟩ ?_
          exact g_J40_getEntry_72 hJ hC hQ hin ih  (some b3) x5 M2 hw
      · replace hw := hw.2 hc
        refine G_aload_n (pc := 49) (i := 3) hC dJ40_getEntry_49 rfl rfl ?_
        refine G_getF (pc := 50) (ci := 31) (C := RJ41) (T := TJ41) (N := 6) (f := 2) hC rfl in_J41 (Nat.le_of_ble_eq_true rfl) q2288 (fun _ h => h) dJ40_getEntry_50 hw (fun x6 hw => ?_)
        refine G_astore_n (pc := 53) (i := 3) (lw := [some (va_rf (some a0)), some (va_rf p1), some (va_rf (some b3)), some (va_rf x6), some (.int x4)]) hC dJ40_getEntry_53 rfl (Nat.le_of_ble_eq_true rfl) rfl ?_
        refine G_goto (pc := 54) (tgt := 72) hC dJ40_getEntry_54 (by decide) ?_
        refine G_loc (lv' := [some (va_rf (some a0)), some (va_rf p1), some (va_rf (some b3)), some (va_rf x6), none]) ⟨Or.inr rfl, Or.inr rfl, Or.inr rfl, Or.inr rfl, Or.inl rfl, trivial⟩ ?_
        exact g_J40_getEntry_72 hJ hC hQ hin ih  (some b3) x6 M2 hw
theorem m_J40_getEntry {l : Launch} {g : gT} {F : Nat} {a0 : Nat} {p1 : Option Nat} {M : hM} {Q : Option Nat → hM → Prop} (hJ : JK l g) (hw : w_J40_getEntry g F a0 p1 M Q) : MG l g yJ40_getEntry (ws_ yJ40_getEntry cJ40_getEntry 5 (some (.object "java/util/TreeMap$Entry"))) 4 75 [va_rf (some a0), va_rf p1] M (PR Q) := by
  refine MG_of hJ.2.1 (by decide) (cat_r (cat_r cat_e)) (Nat.le_of_ble_eq_true rfl) (fun k hl hg hin hQ hC => ?_)
  subst hl hg
  show GW k 5 M 0 [some (va_rf (some a0)), some (va_rf p1), none, none, none] []
  refine G_aload_n (pc := 0) (i := 0) hC dJ40_getEntry_0 rfl rfl ?_
  refine G_getF (pc := 1) (ci := 30) (C := RJ40) (T := TJ40) (N := 9) (f := 2) hC rfl in_J40 (Nat.le_of_ble_eq_true rfl) q2217 (fun _ h => h) dJ40_getEntry_1 hw (fun x1 hw => ?_)
  refine G_ifnull (pc := 4) (tgt := 13) hC dJ40_getEntry_4 (by decide) (fun hc => ?_) (fun hc => ?_)
  · replace hw := hw.1 hc
    refine G_aload_n (pc := 13) (i := 1) hC dJ40_getEntry_13 rfl rfl ?_
    refine G_callS (pc := 14) (n := 1) (As := [va_rf p1]) (rest := []) hC (m_J21_requireNonNull hJ hw) (lw_S q2255 q2256 q109 q2257) hdK_J21_requireNonNull.2 (by decide) rfl rfl (st_c cat_e (Nat.le_of_ble_eq_true rfl)) dJ40_getEntry_14 (kRf fun x3 M2 hw => ?_)
    refine G_pop (pc := 17) hC dJ40_getEntry_17 (rf_cat _) ?_
    refine G_aload_n (pc := 18) (i := 1) hC dJ40_getEntry_18 rfl rfl ?_
    obtain ⟨hb, hw⟩ := hw
    refine G_castB (pc := 19) (nm := "java/lang/Comparable") hJ.1 hC q2258 (nw_in q1678 rfl) hb dJ40_getEntry_19 ?_
    refine G_astore_n (pc := 22) (i := 2) (lw := [some (va_rf (some a0)), some (va_rf p1), some (va_rf p1), none, none]) hC dJ40_getEntry_22 rfl (Nat.le_of_ble_eq_true rfl) rfl ?_
    refine G_aload_n (pc := 23) (i := 0) hC dJ40_getEntry_23 rfl rfl ?_
    refine G_getF (pc := 24) (ci := 30) (C := RJ40) (T := TJ40) (N := 9) (f := 3) hC rfl in_J40 (Nat.le_of_ble_eq_true rfl) q2218 (fun _ h => h) dJ40_getEntry_24 hw (fun x4 hw => ?_)
    refine G_astore_n (pc := 27) (i := 3) (lw := [some (va_rf (some a0)), some (va_rf p1), some (va_rf p1), some (va_rf x4), none]) hC dJ40_getEntry_27 rfl (Nat.le_of_ble_eq_true rfl) rfl ?_
    exact g_J40_getEntry_28 hJ hC hQ hin _ p1 x4 M2 hw
  · replace hw := hw.2 hc
    refine G_aload_n (pc := 7) (i := 0) hC dJ40_getEntry_7 rfl rfl ?_
    refine G_aload_n (pc := 8) (i := 1) hC dJ40_getEntry_8 rfl rfl ?_
    obtain ⟨hb, hw⟩ := hw
    refine G_callV (pc := 9) (n := 1) (C := "java/util/TreeMap") (b := a0) (As := [va_rf p1]) (rest := []) hC (m_J40_getEntryUsingComparator hJ hw) (lw_V q2249 q2250 q2251 q136 q2252) hdK_J40_getEntryUsingComparator (by decide) (rcv (C := RJ40) (T := TJ40) (N := 9) hC hb rfl) rfl rfl (st_c cat_e (Nat.le_of_ble_eq_true rfl)) dJ40_getEntry_9 (kRf fun x6 M5 hw => ?_)
    exact G_aret (pc := 12) hC (Or.inl ⟨_, rfl⟩) hQ dJ40_getEntry_12 hw
theorem hdK_J40_getEntry : yJ40_getEntry.cls = "java/util/TreeMap" ∧ yJ40_getEntry.cls ≠ "java/lang/invoke/MethodHandle" ∧ yJ40_getEntry.cls ≠ "java/lang/invoke/VarHandle" ∧ (parseMethodDescriptor yJ40_getEntry.desc).map (fun d => d.parameters.length) = some 1 := by decide +kernel
def w_J40_get_18 (g : gT) (F : Nat) (a0 : Nat) (p1 : Option Nat) (Q : Option Nat → hM → Prop) (s0 : Option Nat) (M : hM) : Prop :=
  Q s0 M
def w_J40_get (g : gT) (F : Nat) (a0 : Nat) (p1 : Option Nat) (M : hM) (Q : Option Nat → hM → Prop) : Prop :=
  (isC M a0 30 ∧ w_J40_getEntry g F a0 p1 M (fun x2 M1 => ((¬ x2 = none → gF M1 x2 31 1 fun x3 => w_J40_get_18 g F a0 p1 Q x3 M1) ∧ (x2 = none → w_J40_get_18 g F a0 p1 Q none M1))))
theorem g_J40_get_18 {k : kT} {F : Nat} {a0 : Nat} {p1 : Option Nat} {Q : Option Nat → hM → Prop} (hJ : JK (kl k) (kg k)) (hC : CX k 3 cJ40_get RJ40 (some (.object "java/lang/Object")) 5 99) (hQ : isQ k (PR Q)) (hin : (kt k).name = "get") : ∀ (s0 : Option Nat) (M : hM), w_J40_get_18 (kg k) F a0 p1 Q s0 M → GW k 3 M 18 [some (va_rf (some a0)), some (va_rf p1), none] [va_rf s0] := by
  intro s0 M hw
  exact G_aret (pc := 18) hC (Or.inl ⟨_, rfl⟩) hQ dJ40_get_18 hw
theorem m_J40_get {l : Launch} {g : gT} {F : Nat} {a0 : Nat} {p1 : Option Nat} {M : hM} {Q : Option Nat → hM → Prop} (hJ : JK l g) (hw : w_J40_get g F a0 p1 M Q) : MG l g yJ40_get (ws_ yJ40_get cJ40_get 3 (some (.object "java/lang/Object"))) 5 99 [va_rf (some a0), va_rf p1] M (PR Q) := by
  refine MG_of hJ.2.1 (by decide) (cat_r (cat_r cat_e)) (Nat.le_of_ble_eq_true rfl) (fun k hl hg hin hQ hC => ?_)
  subst hl hg
  show GW k 3 M 0 [some (va_rf (some a0)), some (va_rf p1), none] []
  refine G_aload_n (pc := 0) (i := 0) hC dJ40_get_0 rfl rfl ?_
  refine G_aload_n (pc := 1) (i := 1) hC dJ40_get_1 rfl rfl ?_
  obtain ⟨hb, hw⟩ := hw
  refine G_callV (pc := 2) (n := 1) (C := "java/util/TreeMap") (b := a0) (As := [va_rf p1]) (rest := []) hC (m_J40_getEntry hJ hw) (lw_V q2245 q2246 q2247 q136 q2248) hdK_J40_getEntry (by decide) (rcv (C := RJ40) (T := TJ40) (N := 9) hC hb rfl) rfl rfl (st_c cat_e (Nat.le_of_ble_eq_true rfl)) dJ40_get_2 (kRf fun x2 M1 hw => ?_)
  refine G_astore_n (pc := 5) (i := 2) (lw := [some (va_rf (some a0)), some (va_rf p1), some (va_rf x2)]) hC dJ40_get_5 rfl (Nat.le_of_ble_eq_true rfl) rfl ?_
  refine G_aload_n (pc := 6) (i := 2) hC dJ40_get_6 rfl rfl ?_
  refine G_ifnonnull (pc := 7) (tgt := 14) hC dJ40_get_7 (by decide) (fun hc => ?_) (fun hc => ?_)
  · replace hw := hw.1 hc
    refine G_aload_n (pc := 14) (i := 2) hC dJ40_get_14 rfl rfl ?_
    refine G_getF (pc := 15) (ci := 31) (C := RJ41) (T := TJ41) (N := 6) (f := 1) hC rfl in_J41 (Nat.le_of_ble_eq_true rfl) q2287 (fun _ h => h) dJ40_get_15 hw (fun x3 hw => ?_)
    refine G_loc (lv' := [some (va_rf (some a0)), some (va_rf p1), none]) ⟨Or.inr rfl, Or.inr rfl, Or.inl rfl, trivial⟩ ?_
    exact g_J40_get_18 hJ hC hQ hin  x3 M1 hw
  · replace hw := hw.2 hc
    refine G_null (pc := 10) hC dJ40_get_10 ?_
    refine G_goto (pc := 11) (tgt := 18) hC dJ40_get_11 (by decide) ?_
    refine G_loc (lv' := [some (va_rf (some a0)), some (va_rf p1), none]) ⟨Or.inr rfl, Or.inr rfl, Or.inl rfl, trivial⟩ ?_
    exact g_J40_get_18 hJ hC hQ hin  none M1 hw
def w_J40_containsKey_13 (g : gT) (F : Nat) (a0 : Nat) (p1 : Option Nat) (Q : Int32 → hM → Prop) (s0 : Int32) (M : hM) : Prop :=
  ((s0 = 0 ∨ s0 = 1) ∧ Q s0 M)
def w_J40_containsKey (g : gT) (F : Nat) (a0 : Nat) (p1 : Option Nat) (M : hM) (Q : Int32 → hM → Prop) : Prop :=
  (isC M a0 30 ∧ w_J40_getEntry g F a0 p1 M (fun x2 M1 => ((x2 = none → w_J40_containsKey_13 g F a0 p1 Q (0 : Int32) M1) ∧ (¬ x2 = none → w_J40_containsKey_13 g F a0 p1 Q (1 : Int32) M1))))
theorem g_J40_containsKey_13 {k : kT} {F : Nat} {a0 : Nat} {p1 : Option Nat} {Q : Int32 → hM → Prop} (hJ : JK (kl k) (kg k)) (hC : CX k 2 cJ40_containsKey RJ40 (some .boolean) 5 99) (hQ : isQ k (PI Q)) (hin : (kt k).name = "containsKey") : ∀ (s0 : Int32) (M : hM), w_J40_containsKey_13 (kg k) F a0 p1 Q s0 M → GW k 2 M 13 [some (va_rf (some a0)), some (va_rf p1)] [.int s0] := by
  intro s0 M hw
  obtain ⟨hz, hw⟩ := hw
  exact G_iret (pc := 13) hC (nz_n hz) hQ dJ40_containsKey_13 hw
theorem m_J40_containsKey {l : Launch} {g : gT} {F : Nat} {a0 : Nat} {p1 : Option Nat} {M : hM} {Q : Int32 → hM → Prop} (hJ : JK l g) (hw : w_J40_containsKey g F a0 p1 M Q) : MG l g yJ40_containsKey (ws_ yJ40_containsKey cJ40_containsKey 2 (some .boolean)) 5 99 [va_rf (some a0), va_rf p1] M (PI Q) := by
  refine MG_of hJ.2.1 (by decide) (cat_r (cat_r cat_e)) (Nat.le_of_ble_eq_true rfl) (fun k hl hg hin hQ hC => ?_)
  subst hl hg
  show GW k 2 M 0 [some (va_rf (some a0)), some (va_rf p1)] []
  refine G_aload_n (pc := 0) (i := 0) hC dJ40_containsKey_0 rfl rfl ?_
  refine G_aload_n (pc := 1) (i := 1) hC dJ40_containsKey_1 rfl rfl ?_
  obtain ⟨hb, hw⟩ := hw
  refine G_callV (pc := 2) (n := 1) (C := "java/util/TreeMap") (b := a0) (As := [va_rf p1]) (rest := []) hC (m_J40_getEntry hJ hw) (lw_V q2245 q2246 q2247 q136 q2248) hdK_J40_getEntry (by decide) (rcv (C := RJ40) (T := TJ40) (N := 9) hC hb rfl) rfl rfl (st_c cat_e (Nat.le_of_ble_eq_true rfl)) dJ40_containsKey_2 (kRf fun x2 M1 hw => ?_)
  refine G_ifnull (pc := 5) (tgt := 12) hC dJ40_containsKey_5 (by decide) (fun hc => ?_) (fun hc => ?_)
  · replace hw := hw.1 hc
    refine G_iconst (pc := 12) (v := 0) hC dJ40_containsKey_12 (by decide) ?_
    exact g_J40_containsKey_13 hJ hC hQ hin  (0 : Int32) M1 hw
  · replace hw := hw.2 hc
    refine G_iconst (pc := 8) (v := 1) hC dJ40_containsKey_8 (by decide) ?_
    refine G_goto (pc := 9) (tgt := 13) hC dJ40_containsKey_9 (by decide) ?_
    exact g_J40_containsKey_13 hJ hC hQ hin  (1 : Int32) M1 hw
def w_J0_init_s29 (g : gT) (F : Nat) (a0 : Nat) (M : hM) (Q : hM → Prop) : Prop :=
  Q M
theorem m_J0_init_s29 {l : Launch} {g : gT} {F : Nat} {a0 : Nat} {M : hM} {Q : hM → Prop} (hJ : JK l g) (hw : w_J0_init_s29 g F a0 M Q) : MG l g yJ0_init (ws_ yJ0_init cJ0_init 1 none) 1 20 [va_rf (some a0)] M (PU Q) := by
  refine MG_of hJ.2.1 (by decide) (cat_r cat_e) (Nat.le_of_ble_eq_true rfl) (fun k hl hg hin hQ hC => ?_)
  subst hl hg
  show GW k 1 M 0 [some (va_rf (some a0))] []
  refine G_aload_n (pc := 0) (i := 0) hC dJ0_init_0 rfl rfl ?_
  refine G_objInit (pc := 1) hC q171 q158 q159 rfl rfl (st_c cat_e (Nat.le_of_ble_eq_true rfl)) dJ0_init_1 ?_
  exact G_ret (pc := 4) hC hQ dJ0_init_4 hw
theorem hdK_J0_init_s29 : yJ0_init.cls = "java/util/AbstractCollection" ∧ yJ0_init.cls ≠ "java/lang/invoke/MethodHandle" ∧ yJ0_init.cls ≠ "java/lang/invoke/VarHandle" ∧ (parseMethodDescriptor yJ0_init.desc).map (fun d => d.parameters.length) = some 0 := by decide +kernel
def w_J34_init_s29 (g : gT) (F : Nat) (a0 : Nat) (M : hM) (Q : hM → Prop) : Prop :=
  (isC M a0 29 ∧ w_J0_init_s29 g F a0  M (fun M1 => Q M1))
theorem m_J34_init_s29 {l : Launch} {g : gT} {F : Nat} {a0 : Nat} {M : hM} {Q : hM → Prop} (hJ : JK l g) (hw : w_J34_init_s29 g F a0 M Q) : MG l g yJ34_init (ws_ yJ34_init cJ34_init 1 none) 2 40 [va_rf (some a0)] M (PU Q) := by
  refine MG_of hJ.2.1 (by decide) (cat_r cat_e) (Nat.le_of_ble_eq_true rfl) (fun k hl hg hin hQ hC => ?_)
  subst hl hg
  show GW k 1 M 0 [some (va_rf (some a0))] []
  refine G_aload_n (pc := 0) (i := 0) hC dJ34_init_0 rfl rfl ?_
  obtain ⟨hb, hw⟩ := hw
  refine G_callI (pc := 1) (n := 0) (b := a0) (As := []) (rest := []) hC (m_J0_init_s29 hJ hw) (lw_meth q170) q85 q2685 q169 rfl hdK_J0_init_s29.2 (by decide) rfl rfl (st_c cat_e (Nat.le_of_ble_eq_true rfl)) dJ34_init_1 (kU fun M1 hw => ?_)
  exact G_ret (pc := 4) hC hQ dJ34_init_4 hw
theorem hdK_J34_init_s29 : yJ34_init.cls = "java/util/AbstractQueue" ∧ yJ34_init.cls ≠ "java/lang/invoke/MethodHandle" ∧ yJ34_init.cls ≠ "java/lang/invoke/VarHandle" ∧ (parseMethodDescriptor yJ34_init.desc).map (fun d => d.parameters.length) = some 0 := by decide +kernel
def w_J35_init_2 (g : gT) (F : Nat) (a0 : Nat) (p1 : Int32) (p2 : Option Nat) (M : hM) (Q : hM → Prop) : Prop :=
  (isC M a0 29 ∧ w_J34_init_s29 g F a0  M (fun M1 => (((1 : Int32) ≤ p1 → nA M1 6 p1 (.inr (.inr (.inr (.inr (fun _ => none))))) fun q2 M3 => pV M3 (some a0) 29 0 (va_rf (some q2)) fun M4 => pV M4 (some a0) 29 2 (va_rf p2) fun M5 => Q M5) ∧ (¬ ((1 : Int32) ≤ p1) → False))))
theorem m_J35_init_2 {l : Launch} {g : gT} {F : Nat} {a0 : Nat} {p1 : Int32} {p2 : Option Nat} {M : hM} {Q : hM → Prop} (hJ : JK l g) (hw : w_J35_init_2 g F a0 p1 p2 M Q) : MG l g yJ35_init_2 (ws_ yJ35_init_2 cJ35_init_2 3 none) 3 60 [va_rf (some a0), .int p1, va_rf p2] M (PU Q) := by
  refine MG_of hJ.2.1 (by decide) (cat_r (cat_i (cat_r cat_e))) (Nat.le_of_ble_eq_true rfl) (fun k hl hg hin hQ hC => ?_)
  subst hl hg
  show GW k 3 M 0 [some (va_rf (some a0)), some (.int p1), some (va_rf p2)] []
  refine G_aload_n (pc := 0) (i := 0) hC dJ35_init_2_0 rfl rfl ?_
  obtain ⟨hb, hw⟩ := hw
  refine G_callI (pc := 1) (n := 0) (b := a0) (As := []) (rest := []) hC (m_J34_init_s29 hJ hw) (lw_meth q2684) q128 q2682 q2683 rfl hdK_J34_init_s29.2 (by decide) rfl rfl (st_c cat_e (Nat.le_of_ble_eq_true rfl)) dJ35_init_2_1 (kU fun M1 hw => ?_)
  refine G_iload_n (pc := 4) (i := 1) hC dJ35_init_2_4 rfl rfl ?_
  refine G_iconst (pc := 5) (v := 1) hC dJ35_init_2_5 (by decide) ?_
  refine G_icmp_ge (pc := 6) (tgt := 17) hC dJ35_init_2_6 (by decide) (fun hc => ?_) (fun hc => ?_)
  · replace hw := hw.1 hc
    refine G_aload_n (pc := 17) (i := 0) hC dJ35_init_2_17 rfl rfl ?_
    refine G_iload_n (pc := 18) (i := 1) hC dJ35_init_2_18 rfl rfl ?_
    refine G_anewO (pc := 19) hC q2688 dJ35_init_2_19 hw (fun q2 M3 hw => ?_)
    refine G_put (pc := 22) (ci := 29) (C := RJ35) (T := TJ35) (N := 4) (f := 0) tyJ35 hC rfl in_J35 tyJ35_ok nmJ35 (Nat.le_of_ble_eq_true rfl) q2690 (fun _ h => h) rfl (nR_a _ _) (fR_a _ _) dJ35_init_2_22 hw (fun M4 hw => ?_)
    refine G_aload_n (pc := 25) (i := 0) hC dJ35_init_2_25 rfl rfl ?_
    refine G_aload_n (pc := 26) (i := 2) hC dJ35_init_2_26 rfl rfl ?_
    refine G_putF (pc := 27) (ci := 29) (C := RJ35) (T := TJ35) (N := 4) (f := 2) tyJ35 hC rfl in_J35 tyJ35_ok nmJ35 (Nat.le_of_ble_eq_true rfl) q2693 (fun _ h => h) rfl hin rfl (nR_o _ _) (fR_o _ _) dJ35_init_2_27 hw (fun M5 hw => ?_)
    exact G_ret (pc := 30) hC hQ dJ35_init_2_30 hw
  · replace hw := hw.2 hc
    exact hw.elim
theorem hdK_J35_init_2 : yJ35_init_2.cls = "java/util/PriorityQueue" ∧ yJ35_init_2.cls ≠ "java/lang/invoke/MethodHandle" ∧ yJ35_init_2.cls ≠ "java/lang/invoke/VarHandle" ∧ (parseMethodDescriptor yJ35_init_2.desc).map (fun d => d.parameters.length) = some 2 := by decide +kernel
def w_J35_init (g : gT) (F : Nat) (a0 : Nat) (p1 : Option Nat) (M : hM) (Q : hM → Prop) : Prop :=
  (isC M a0 29 ∧ w_J35_init_2 g F a0 (11 : Int32) p1 M (fun M1 => Q M1))
theorem m_J35_init {l : Launch} {g : gT} {F : Nat} {a0 : Nat} {p1 : Option Nat} {M : hM} {Q : hM → Prop} (hJ : JK l g) (hw : w_J35_init g F a0 p1 M Q) : MG l g yJ35_init (ws_ yJ35_init cJ35_init 2 none) 4 82 [va_rf (some a0), va_rf p1] M (PU Q) := by
  refine MG_of hJ.2.1 (by decide) (cat_r (cat_r cat_e)) (Nat.le_of_ble_eq_true rfl) (fun k hl hg hin hQ hC => ?_)
  subst hl hg
  show GW k 2 M 0 [some (va_rf (some a0)), some (va_rf p1)] []
  refine G_aload_n (pc := 0) (i := 0) hC dJ35_init_0 rfl rfl ?_
  refine G_bipush (pc := 1) (v := 11) hC dJ35_init_1 (by decide) ?_
  refine G_aload_n (pc := 3) (i := 1) hC dJ35_init_3 rfl rfl ?_
  obtain ⟨hb, hw⟩ := hw
  refine G_callI (pc := 4) (n := 2) (b := a0) (As := [.int (11 : Int32), va_rf p1]) (rest := []) hC (m_J35_init_2 hJ hw) (lw_meth q2681) q129 q2679 q2680 rfl hdK_J35_init_2.2 (by decide) rfl rfl (st_c cat_e (Nat.le_of_ble_eq_true rfl)) dJ35_init_4 (kU fun M1 hw => ?_)
  exact G_ret (pc := 7) hC hQ dJ35_init_7 hw
def w_J35_siftUpComparable_47 (g : gT) (F : Nat) (p1 : Option Nat) (p2 : Option Nat) (Q : hM → Prop) (v0 : Int32) (v3 : Option Nat) (M : hM) : Prop :=
  sR g M p2 v0 v3 fun M1 => Q M1
def w_J35_siftUpComparable_5 (g : gT) (F : Nat) (p1 : Option Nat) (p2 : Option Nat) (Q : hM → Prop) : Nat → Int32 → (Option Nat) → hM → Prop
  | 0, _, _, _ => False
  | n + 1, v0, v3, M => ((v0 ≤ 0 → w_J35_siftUpComparable_47 g F p1 p2 Q v0 v3 M) ∧ (¬ (v0 ≤ 0) → aR M p2 (((v0 - (1 : Int32))).toUInt32 >>> (((1 : Int32)).toUInt32 &&& Int32.toUInt32 31)).toInt32 fun x1 => False))
def w_J35_siftUpComparable (g : gT) (F : Nat) (p0 : Int32) (p1 : Option Nat) (p2 : Option Nat) (M : hM) (Q : hM → Prop) : Prop :=
  ckB g M p1 (w_J35_siftUpComparable_5 g F p1 p2 Q F p0 p1 M)
theorem g_J35_siftUpComparable_47 {k : kT} {F : Nat} {p1 : Option Nat} {p2 : Option Nat} {Q : hM → Prop} (hJ : JK (kl k) (kg k)) (hC : CX k 6 cJ35_siftUpComparable RJ35 none 1 12) (hQ : isQ k (PU Q)) (hin : (kt k).name = "siftUpComparable") : ∀ (v0 : Int32) (v3 : Option Nat) (M : hM), w_J35_siftUpComparable_47 (kg k) F p1 p2 Q v0 v3 M → GW k 6 M 47 [some (.int v0), some (va_rf p1), some (va_rf p2), some (va_rf v3), none, none] [] := by
  intro v0 v3 M hw
  refine G_aload_n (pc := 47) (i := 2) hC dJ35_siftUpComparable_47 rfl rfl ?_
  refine G_iload_n (pc := 48) (i := 0) hC dJ35_siftUpComparable_48 rfl rfl ?_
  refine G_aload_n (pc := 49) (i := 3) hC dJ35_siftUpComparable_49 rfl rfl ?_
  refine G_aastO (pc := 50) hJ hC dJ35_siftUpComparable_50 hw (fun M1 hw => ?_)
  exact G_ret (pc := 51) hC hQ dJ35_siftUpComparable_51 hw
theorem g_J35_siftUpComparable_5 {k : kT} {F : Nat} {p1 : Option Nat} {p2 : Option Nat} {Q : hM → Prop} (hJ : JK (kl k) (kg k)) (hC : CX k 6 cJ35_siftUpComparable RJ35 none 1 12) (hQ : isQ k (PU Q)) (hin : (kt k).name = "siftUpComparable") : ∀ (n : Nat) (v0 : Int32) (v3 : Option Nat) (M : hM), w_J35_siftUpComparable_5 (kg k) F p1 p2 Q n v0 v3 M → GW k 6 M 5 [some (.int v0), some (va_rf p1), some (va_rf p2), some (va_rf v3), none, none] [] := by
  intro n
  induction n with
  | zero =>
    intro v0 v3 M hw
    exact hw.elim
  | succ n ih =>
    intro v0 v3 M hw
    refine G_iload_n (pc := 5) (i := 0) hC dJ35_siftUpComparable_5 rfl rfl ?_
    refine G_if_le (pc := 6) (tgt := 47) hC dJ35_siftUpComparable_6 (by decide) (fun hc => ?_) (fun hc => ?_)
    · replace hw := hw.1 hc
      exact g_J35_siftUpComparable_47 hJ hC hQ hin  v0 v3 M hw
    · replace hw := hw.2 hc
      refine G_iload_n (pc := 9) (i := 0) hC dJ35_siftUpComparable_9 rfl rfl ?_
      refine G_iconst (pc := 10) (v := 1) hC dJ35_siftUpComparable_10 (by decide) ?_
      refine G_isub (pc := 11) hC dJ35_siftUpComparable_11 ?_
      refine G_iconst (pc := 12) (v := 1) hC dJ35_siftUpComparable_12 (by decide) ?_
      refine G_iushr (pc := 13) hC dJ35_siftUpComparable_13 ?_
      refine G_istore (pc := 14) (i := 4) (lw := [some (.int v0), some (va_rf p1), some (va_rf p2), some (va_rf v3), some (.int (((v0 - (1 : Int32))).toUInt32 >>> (((1 : Int32)).toUInt32 &&& Int32.toUInt32 31)).toInt32), none]) hC dJ35_siftUpComparable_14 (Nat.le_of_ble_eq_true rfl) rfl ?_
      refine G_aload_n (pc := 16) (i := 2) hC dJ35_siftUpComparable_16 rfl rfl ?_
      refine G_iload (pc := 17) (i := 4) hC dJ35_siftUpComparable_17 rfl ?_
      refine G_aald (pc := 19) hC dJ35_siftUpComparable_19 hw (fun x1 hw => ?_)
      refine G_astore (pc := 20) (i := 5) (lw := [some (.int v0), some (va_rf p1), some (va_rf p2), some (va_rf v3), some (.int (((v0 - (1 : Int32))).toUInt32 >>> (((1 : Int32)).toUInt32 &&& Int32.toUInt32 31)).toInt32), some (va_rf x1)]) hC dJ35_siftUpComparable_20 (Nat.le_of_ble_eq_true rfl) rfl ?_
      refine G_aload_n (pc := 22) (i := 3) hC dJ35_siftUpComparable_22 rfl rfl ?_
      refine G_aload (pc := 23) (i := 5) hC dJ35_siftUpComparable_23 rfl ?_
      exact hw.elim
theorem m_J35_siftUpComparable {l : Launch} {g : gT} {F : Nat} {p0 : Int32} {p1 : Option Nat} {p2 : Option Nat} {M : hM} {Q : hM → Prop} (hJ : JK l g) (hw : w_J35_siftUpComparable g F p0 p1 p2 M Q) : MG l g yJ35_siftUpComparable (ws_ yJ35_siftUpComparable cJ35_siftUpComparable 6 none) 1 12 [.int p0, va_rf p1, va_rf p2] M (PU Q) := by
  refine MG_of hJ.2.1 (by decide) (cat_i (cat_r (cat_r cat_e))) (Nat.le_of_ble_eq_true rfl) (fun k hl hg hin hQ hC => ?_)
  subst hl hg
  show GW k 6 M 0 [some (.int p0), some (va_rf p1), some (va_rf p2), none, none, none] []
  refine G_aload_n (pc := 0) (i := 1) hC dJ35_siftUpComparable_0 rfl rfl ?_
  obtain ⟨hb, hw⟩ := hw
  refine G_castB (pc := 1) (nm := "java/lang/Comparable") hJ.1 hC q1926 (nw_in q1678 rfl) hb dJ35_siftUpComparable_1 ?_
  refine G_astore_n (pc := 4) (i := 3) (lw := [some (.int p0), some (va_rf p1), some (va_rf p2), some (va_rf p1), none, none]) hC dJ35_siftUpComparable_4 rfl (Nat.le_of_ble_eq_true rfl) rfl ?_
  exact g_J35_siftUpComparable_5 hJ hC hQ hin _ p0 p1 M hw
def w_Y14_compare_2_59 (g : gT) (F : Nat) (a0 : Nat) (p1 : Option Nat) (p2 : Option Nat) (Q : Int32 → hM → Prop) (s0 : Int32) (M : hM) : Prop :=
  Q s0 M
def w_Y14_compare_2 (g : gT) (F : Nat) (a0 : Nat) (p1 : Option Nat) (p2 : Option Nat) (M : hM) (Q : Int32 → hM → Prop) : Prop :=
  gI M p1 14 2 fun x1 => gI M p2 14 2 fun x2 => ((x1 = x2 → gI M p1 14 0 fun x3 => gI M p2 14 0 fun x4 => ((x3 = x4 → gI M p1 14 1 fun x5 => gI M p2 14 1 fun x6 => w_J19_compare g F x5 x6 M (fun x8 M7 => w_Y14_compare_2_59 g F a0 p1 p2 Q x8 M7)) ∧ (¬ (x3 = x4) → gI M p1 14 0 fun x9 => gI M p2 14 0 fun x10 => w_J19_compare g F x9 x10 M (fun x12 M11 => w_Y14_compare_2_59 g F a0 p1 p2 Q x12 M11)))) ∧ (¬ (x1 = x2) → gI M p2 14 2 fun x13 => gI M p1 14 2 fun x14 => w_J19_compare g F x13 x14 M (fun x16 M15 => Q x16 M15)))
theorem g_Y14_compare_2_59 {k : kT} {F : Nat} {a0 : Nat} {p1 : Option Nat} {p2 : Option Nat} {Q : Int32 → hM → Prop} (hJ : JK (kl k) (kg k)) (hC : CX k 3 cX14_compare_2 RX14 (some .int) 2 33) (hQ : isQ k (PI Q)) (hin : (kt k).name = "compare") : ∀ (s0 : Int32) (M : hM), w_Y14_compare_2_59 (kg k) F a0 p1 p2 Q s0 M → GW k 3 M 59 [some (va_rf (some a0)), some (va_rf p1), some (va_rf p2)] [.int s0] := by
  intro s0 M hw
  exact G_iret (pc := 59) hC rfl hQ dX14_compare_2_59 hw
theorem m_Y14_compare_2 {l : Launch} {g : gT} {F : Nat} {a0 : Nat} {p1 : Option Nat} {p2 : Option Nat} {M : hM} {Q : Int32 → hM → Prop} (hJ : JK l g) (hw : w_Y14_compare_2 g F a0 p1 p2 M Q) : MG l g yX14_compare_2 (ws_ yX14_compare_2 cX14_compare_2 3 (some .int)) 2 33 [va_rf (some a0), va_rf p1, va_rf p2] M (PI Q) := by
  refine MG_of hJ.2.1 (by decide) (cat_r (cat_r (cat_r cat_e))) (Nat.le_of_ble_eq_true rfl) (fun k hl hg hin hQ hC => ?_)
  subst hl hg
  show GW k 3 M 0 [some (va_rf (some a0)), some (va_rf p1), some (va_rf p2)] []
  refine G_aload_n (pc := 0) (i := 1) hC dX14_compare_2_0 rfl rfl ?_
  refine G_getIN (pc := 1) (ci := 14) (C := RX15) (T := TX15) (N := 3) (f := 2) hC rfl in_X15 (Nat.le_of_ble_eq_true rfl) (nw_in q2730 rfl) (fun _ h => h) dX14_compare_2_1 hw (fun x1 hw => ?_)
  refine G_aload_n (pc := 4) (i := 2) hC dX14_compare_2_4 rfl rfl ?_
  refine G_getIN (pc := 5) (ci := 14) (C := RX15) (T := TX15) (N := 3) (f := 2) hC rfl in_X15 (Nat.le_of_ble_eq_true rfl) (nw_in q2730 rfl) (fun _ h => h) dX14_compare_2_5 hw (fun x2 hw => ?_)
  refine G_icmp_eq (pc := 8) (tgt := 23) hC dX14_compare_2_8 (by decide) (fun hc => ?_) (fun hc => ?_)
  · replace hw := hw.1 hc
    refine G_aload_n (pc := 23) (i := 1) hC dX14_compare_2_23 rfl rfl ?_
    refine G_getIN (pc := 24) (ci := 14) (C := RX15) (T := TX15) (N := 3) (f := 0) hC rfl in_X15 (Nat.le_of_ble_eq_true rfl) (nw_in q2724 rfl) (fun _ h => h) dX14_compare_2_24 hw (fun x3 hw => ?_)
    refine G_aload_n (pc := 27) (i := 2) hC dX14_compare_2_27 rfl rfl ?_
    refine G_getIN (pc := 28) (ci := 14) (C := RX15) (T := TX15) (N := 3) (f := 0) hC rfl in_X15 (Nat.le_of_ble_eq_true rfl) (nw_in q2724 rfl) (fun _ h => h) dX14_compare_2_28 hw (fun x4 hw => ?_)
    refine G_icmp_eq (pc := 31) (tgt := 48) hC dX14_compare_2_31 (by decide) (fun hc => ?_) (fun hc => ?_)
    · replace hw := hw.1 hc
      refine G_aload_n (pc := 48) (i := 1) hC dX14_compare_2_48 rfl rfl ?_
      refine G_getIN (pc := 49) (ci := 14) (C := RX15) (T := TX15) (N := 3) (f := 1) hC rfl in_X15 (Nat.le_of_ble_eq_true rfl) (nw_in q2727 rfl) (fun _ h => h) dX14_compare_2_49 hw (fun x5 hw => ?_)
      refine G_aload_n (pc := 52) (i := 2) hC dX14_compare_2_52 rfl rfl ?_
      refine G_getIN (pc := 53) (ci := 14) (C := RX15) (T := TX15) (N := 3) (f := 1) hC rfl in_X15 (Nat.le_of_ble_eq_true rfl) (nw_in q2727 rfl) (fun _ h => h) dX14_compare_2_53 hw (fun x6 hw => ?_)
      refine G_callS (pc := 56) (n := 2) (As := [.int x5, .int x6]) (rest := []) hC (m_J19_compare hJ hw) (lw_S q1920 q1921 q106 q1922) hdK_J19_compare.2 (by decide) rfl rfl (st_c cat_e (Nat.le_of_ble_eq_true rfl)) dX14_compare_2_56 (kI fun x8 M7 hw => ?_)
      exact g_Y14_compare_2_59 hJ hC hQ hin  x8 M7 hw
    · replace hw := hw.2 hc
      refine G_aload_n (pc := 34) (i := 1) hC dX14_compare_2_34 rfl rfl ?_
      refine G_getIN (pc := 35) (ci := 14) (C := RX15) (T := TX15) (N := 3) (f := 0) hC rfl in_X15 (Nat.le_of_ble_eq_true rfl) (nw_in q2724 rfl) (fun _ h => h) dX14_compare_2_35 hw (fun x9 hw => ?_)
      refine G_aload_n (pc := 38) (i := 2) hC dX14_compare_2_38 rfl rfl ?_
      refine G_getIN (pc := 39) (ci := 14) (C := RX15) (T := TX15) (N := 3) (f := 0) hC rfl in_X15 (Nat.le_of_ble_eq_true rfl) (nw_in q2724 rfl) (fun _ h => h) dX14_compare_2_39 hw (fun x10 hw => ?_)
      refine G_callS (pc := 42) (n := 2) (As := [.int x9, .int x10]) (rest := []) hC (m_J19_compare hJ hw) (lw_S q1920 q1921 q106 q1922) hdK_J19_compare.2 (by decide) rfl rfl (st_c cat_e (Nat.le_of_ble_eq_true rfl)) dX14_compare_2_42 (kI fun x12 M11 hw => ?_)
      refine G_goto (pc := 45) (tgt := 59) hC dX14_compare_2_45 (by decide) ?_
      exact g_Y14_compare_2_59 hJ hC hQ hin  x12 M11 hw
  · replace hw := hw.2 hc
    refine G_aload_n (pc := 11) (i := 2) hC dX14_compare_2_11 rfl rfl ?_
    refine G_getIN (pc := 12) (ci := 14) (C := RX15) (T := TX15) (N := 3) (f := 2) hC rfl in_X15 (Nat.le_of_ble_eq_true rfl) (nw_in q2730 rfl) (fun _ h => h) dX14_compare_2_12 hw (fun x13 hw => ?_)
    refine G_aload_n (pc := 15) (i := 1) hC dX14_compare_2_15 rfl rfl ?_
    refine G_getIN (pc := 16) (ci := 14) (C := RX15) (T := TX15) (N := 3) (f := 2) hC rfl in_X15 (Nat.le_of_ble_eq_true rfl) (nw_in q2730 rfl) (fun _ h => h) dX14_compare_2_16 hw (fun x14 hw => ?_)
    refine G_callS (pc := 19) (n := 2) (As := [.int x13, .int x14]) (rest := []) hC (m_J19_compare hJ hw) (lw_S q1920 q1921 q106 q1922) hdK_J19_compare.2 (by decide) rfl rfl (st_c cat_e (Nat.le_of_ble_eq_true rfl)) dX14_compare_2_19 (kI fun x16 M15 hw => ?_)
    exact G_iret (pc := 22) hC rfl hQ dX14_compare_2_22 hw
theorem hdK_Y14_compare_2 : yX14_compare_2.cls = "MergeWorkbench$MoveOrder" ∧ yX14_compare_2.cls ≠ "java/lang/invoke/MethodHandle" ∧ yX14_compare_2.cls ≠ "java/lang/invoke/VarHandle" ∧ (parseMethodDescriptor yX14_compare_2.desc).map (fun d => d.parameters.length) = some 2 := by decide +kernel
def w_Y14_compare (g : gT) (F : Nat) (a0 : Nat) (p1 : Option Nat) (p2 : Option Nat) (M : hM) (Q : Int32 → hM → Prop) : Prop :=
  ckC M p1 14 (ckC M p2 14 ((isC M a0 13 ∧ w_Y14_compare_2 g F a0 p1 p2 M (fun x2 M1 => Q x2 M1))))
theorem m_Y14_compare {l : Launch} {g : gT} {F : Nat} {a0 : Nat} {p1 : Option Nat} {p2 : Option Nat} {M : hM} {Q : Int32 → hM → Prop} (hJ : JK l g) (hw : w_Y14_compare g F a0 p1 p2 M Q) : MG l g yX14_compare (ws_ yX14_compare cX14_compare 3 (some .int)) 3 55 [va_rf (some a0), va_rf p1, va_rf p2] M (PI Q) := by
  refine MG_of hJ.2.1 (by decide) (cat_r (cat_r (cat_r cat_e))) (Nat.le_of_ble_eq_true rfl) (fun k hl hg hin hQ hC => ?_)
  subst hl hg
  show GW k 3 M 0 [some (va_rf (some a0)), some (va_rf p1), some (va_rf p2)] []
  refine G_aload_n (pc := 0) (i := 0) hC dX14_compare_0 rfl rfl ?_
  refine G_aload_n (pc := 1) (i := 1) hC dX14_compare_1 rfl rfl ?_
  obtain ⟨hb, hw⟩ := hw
  refine G_castCS (pc := 2) (C := RX15) (T := TX15) (N := 3) hC rfl q1915 hb dX14_compare_2 ?_
  refine G_aload_n (pc := 5) (i := 2) hC dX14_compare_5 rfl rfl ?_
  obtain ⟨hb, hw⟩ := hw
  refine G_castCS (pc := 6) (C := RX15) (T := TX15) (N := 3) hC rfl q1915 hb dX14_compare_6 ?_
  obtain ⟨hb, hw⟩ := hw
  refine G_callV (pc := 9) (n := 2) (C := "MergeWorkbench$MoveOrder") (b := a0) (As := [va_rf p1, va_rf p2]) (rest := []) hC (m_Y14_compare_2 hJ hw) (lw_V q1916 q1917 q1918 q144 q1919) hdK_Y14_compare_2 (by decide) (rcv (C := RX14) (T := TX14) (N := 0) hC hb rfl) rfl rfl (st_c cat_e (Nat.le_of_ble_eq_true rfl)) dX14_compare_9 (kI fun x2 M1 hw => ?_)
  exact G_iret (pc := 12) hC rfl hQ dX14_compare_12 hw
def w_J35_siftUpUsingComparator_43 (g : gT) (F : Nat) (p1 : Option Nat) (p2 : Option Nat) (p3 : Option Nat) (Q : hM → Prop) (v0 : Int32) (M : hM) : Prop :=
  sR g M p2 v0 p1 fun M1 => Q M1
def w_J35_siftUpUsingComparator_0 (g : gT) (F : Nat) (p1 : Option Nat) (p2 : Option Nat) (p3 : Option Nat) (Q : hM → Prop) : Nat → Int32 → hM → Prop
  | 0, _, _ => False
  | n + 1, v0, M => ((v0 ≤ 0 → w_J35_siftUpUsingComparator_43 g F p1 p2 p3 Q v0 M) ∧ (¬ (v0 ≤ 0) → aR M p2 (((v0 - (1 : Int32))).toUInt32 >>> (((1 : Int32)).toUInt32 &&& Int32.toUInt32 31)).toInt32 fun x1 => gThis M p3 13 fun b3 => w_Y14_compare g F b3 p1 x1 M (fun x4 M2 => ((x4 < 0 → sR g M2 p2 v0 x1 fun M5 => w_J35_siftUpUsingComparator_0 g F p1 p2 p3 Q n (((v0 - (1 : Int32))).toUInt32 >>> (((1 : Int32)).toUInt32 &&& Int32.toUInt32 31)).toInt32 M5) ∧ (¬ (x4 < 0) → w_J35_siftUpUsingComparator_43 g F p1 p2 p3 Q v0 M2)))))
def w_J35_siftUpUsingComparator (g : gT) (F : Nat) (p0 : Int32) (p1 : Option Nat) (p2 : Option Nat) (p3 : Option Nat) (M : hM) (Q : hM → Prop) : Prop :=
  w_J35_siftUpUsingComparator_0 g F p1 p2 p3 Q F p0 M
theorem g_J35_siftUpUsingComparator_43 {k : kT} {F : Nat} {p1 : Option Nat} {p2 : Option Nat} {p3 : Option Nat} {Q : hM → Prop} (hJ : JK (kl k) (kg k)) (hC : CX k 6 cJ35_siftUpUsingComparator RJ35 none 4 77) (hQ : isQ k (PU Q)) (hin : (kt k).name = "siftUpUsingComparator") : ∀ (v0 : Int32) (M : hM), w_J35_siftUpUsingComparator_43 (kg k) F p1 p2 p3 Q v0 M → GW k 6 M 43 [some (.int v0), some (va_rf p1), some (va_rf p2), some (va_rf p3), none, none] [] := by
  intro v0 M hw
  refine G_aload_n (pc := 43) (i := 2) hC dJ35_siftUpUsingComparator_43 rfl rfl ?_
  refine G_iload_n (pc := 44) (i := 0) hC dJ35_siftUpUsingComparator_44 rfl rfl ?_
  refine G_aload_n (pc := 45) (i := 1) hC dJ35_siftUpUsingComparator_45 rfl rfl ?_
  refine G_aastO (pc := 46) hJ hC dJ35_siftUpUsingComparator_46 hw (fun M1 hw => ?_)
  exact G_ret (pc := 47) hC hQ dJ35_siftUpUsingComparator_47 hw
theorem g_J35_siftUpUsingComparator_0 {k : kT} {F : Nat} {p1 : Option Nat} {p2 : Option Nat} {p3 : Option Nat} {Q : hM → Prop} (hJ : JK (kl k) (kg k)) (hC : CX k 6 cJ35_siftUpUsingComparator RJ35 none 4 77) (hQ : isQ k (PU Q)) (hin : (kt k).name = "siftUpUsingComparator") : ∀ (n : Nat) (v0 : Int32) (M : hM), w_J35_siftUpUsingComparator_0 (kg k) F p1 p2 p3 Q n v0 M → GW k 6 M 0 [some (.int v0), some (va_rf p1), some (va_rf p2), some (va_rf p3), none, none] [] := by
  intro n
  induction n with
  | zero =>
    intro v0 M hw
    exact hw.elim
  | succ n ih =>
    intro v0 M hw
    refine G_iload_n (pc := 0) (i := 0) hC dJ35_siftUpUsingComparator_0 rfl rfl ?_
    refine G_if_le (pc := 1) (tgt := 43) hC dJ35_siftUpUsingComparator_1 (by decide) (fun hc => ?_) (fun hc => ?_)
    · replace hw := hw.1 hc
      exact g_J35_siftUpUsingComparator_43 hJ hC hQ hin  v0 M hw
    · replace hw := hw.2 hc
      refine G_iload_n (pc := 4) (i := 0) hC dJ35_siftUpUsingComparator_4 rfl rfl ?_
      refine G_iconst (pc := 5) (v := 1) hC dJ35_siftUpUsingComparator_5 (by decide) ?_
      refine G_isub (pc := 6) hC dJ35_siftUpUsingComparator_6 ?_
      refine G_iconst (pc := 7) (v := 1) hC dJ35_siftUpUsingComparator_7 (by decide) ?_
      refine G_iushr (pc := 8) hC dJ35_siftUpUsingComparator_8 ?_
      refine G_istore (pc := 9) (i := 4) (lw := [some (.int v0), some (va_rf p1), some (va_rf p2), some (va_rf p3), some (.int (((v0 - (1 : Int32))).toUInt32 >>> (((1 : Int32)).toUInt32 &&& Int32.toUInt32 31)).toInt32), none]) hC dJ35_siftUpUsingComparator_9 (Nat.le_of_ble_eq_true rfl) rfl ?_
      refine G_aload_n (pc := 11) (i := 2) hC dJ35_siftUpUsingComparator_11 rfl rfl ?_
      refine G_iload (pc := 12) (i := 4) hC dJ35_siftUpUsingComparator_12 rfl ?_
      refine G_aald (pc := 14) hC dJ35_siftUpUsingComparator_14 hw (fun x1 hw => ?_)
      refine G_astore (pc := 15) (i := 5) (lw := [some (.int v0), some (va_rf p1), some (va_rf p2), some (va_rf p3), some (.int (((v0 - (1 : Int32))).toUInt32 >>> (((1 : Int32)).toUInt32 &&& Int32.toUInt32 31)).toInt32), some (va_rf x1)]) hC dJ35_siftUpUsingComparator_15 (Nat.le_of_ble_eq_true rfl) rfl ?_
      refine G_aload_n (pc := 17) (i := 3) hC dJ35_siftUpUsingComparator_17 rfl rfl ?_
      refine G_aload_n (pc := 18) (i := 1) hC dJ35_siftUpUsingComparator_18 rfl rfl ?_
      refine G_aload (pc := 19) (i := 5) hC dJ35_siftUpUsingComparator_19 rfl ?_
      obtain ⟨b3, rfl, hb, hw⟩ := gThis_e hw
      refine G_callF (pc := 21) (n := 2) (x := ⟨"java/util/Comparator", "compare", "(Ljava/lang/Object;Ljava/lang/Object;)I"⟩) (C := "MergeWorkbench$MoveOrder") (ci := 13) (T := TX14) (N := 0) (b := b3) (As := [va_rf p1, va_rf x1]) (rest := []) hC (m_Y14_compare hJ hw) (lw_F q1906 q1910 q1912 q144 q1914) (nw_in q1908 rfl) (nw_in q1907 rfl) (nw_in q1913 rfl) (nw_in q1911 rfl) (nw_in q1909 rfl) rfl (rcv (C := RX14) (T := TX14) (N := 0) hC hb rfl) (by decide +kernel) (by decide) rfl rfl (st_c cat_e (Nat.le_of_ble_eq_true rfl)) dJ35_siftUpUsingComparator_21 (kI fun x4 M2 hw => ?_)
      refine G_if_lt (pc := 26) (tgt := 32) hC dJ35_siftUpUsingComparator_26 (by decide) (fun hc => ?_) (fun hc => ?_)
      · replace hw := hw.1 hc
        refine G_aload_n (pc := 32) (i := 2) hC dJ35_siftUpUsingComparator_32 rfl rfl ?_
        refine G_iload_n (pc := 33) (i := 0) hC dJ35_siftUpUsingComparator_33 rfl rfl ?_
        refine G_aload (pc := 34) (i := 5) hC dJ35_siftUpUsingComparator_34 rfl ?_
        refine G_aastO (pc := 36) hJ hC dJ35_siftUpUsingComparator_36 hw (fun M5 hw => ?_)
        refine G_iload (pc := 37) (i := 4) hC dJ35_siftUpUsingComparator_37 rfl ?_
        refine G_istore_n (pc := 39) (i := 0) (lw := [some (.int (((v0 - (1 : Int32))).toUInt32 >>> (((1 : Int32)).toUInt32 &&& Int32.toUInt32 31)).toInt32), some (va_rf p1), some (va_rf p2), some (va_rf (some b3)), some (.int (((v0 - (1 : Int32))).toUInt32 >>> (((1 : Int32)).toUInt32 &&& Int32.toUInt32 31)).toInt32), some (va_rf x1)]) hC dJ35_siftUpUsingComparator_39 rfl (Nat.le_of_ble_eq_true rfl) rfl ?_
        refine G_goto (pc := 40) (tgt := 0) hC dJ35_siftUpUsingComparator_40 (by decide) ?_
        refine G_loc (lv' := [some (.int (((v0 - (1 : Int32))).toUInt32 >>> (((1 : Int32)).toUInt32 &&& Int32.toUInt32 31)).toInt32), some (va_rf p1), some (va_rf p2), some (va_rf (some b3)), none, none]) ⟨Or.inr rfl, Or.inr rfl, Or.inr rfl, Or.inr rfl, Or.inl rfl, Or.inl rfl, trivial⟩ ?_
        exact ih (((v0 - (1 : Int32))).toUInt32 >>> (((1 : Int32)).toUInt32 &&& Int32.toUInt32 31)).toInt32 M5 hw
      · replace hw := hw.2 hc
        refine G_goto (pc := 29) (tgt := 43) hC dJ35_siftUpUsingComparator_29 (by decide) ?_
        refine G_loc (lv' := [some (.int v0), some (va_rf p1), some (va_rf p2), some (va_rf (some b3)), none, none]) ⟨Or.inr rfl, Or.inr rfl, Or.inr rfl, Or.inr rfl, Or.inl rfl, Or.inl rfl, trivial⟩ ?_
        exact g_J35_siftUpUsingComparator_43 hJ hC hQ hin  v0 M2 hw
theorem m_J35_siftUpUsingComparator {l : Launch} {g : gT} {F : Nat} {p0 : Int32} {p1 : Option Nat} {p2 : Option Nat} {p3 : Option Nat} {M : hM} {Q : hM → Prop} (hJ : JK l g) (hw : w_J35_siftUpUsingComparator g F p0 p1 p2 p3 M Q) : MG l g yJ35_siftUpUsingComparator (ws_ yJ35_siftUpUsingComparator cJ35_siftUpUsingComparator 6 none) 4 77 [.int p0, va_rf p1, va_rf p2, va_rf p3] M (PU Q) := by
  refine MG_of hJ.2.1 (by decide) (cat_i (cat_r (cat_r (cat_r cat_e)))) (Nat.le_of_ble_eq_true rfl) (fun k hl hg hin hQ hC => ?_)
  subst hl hg
  show GW k 6 M 0 [some (.int p0), some (va_rf p1), some (va_rf p2), some (va_rf p3), none, none] []
  exact g_J35_siftUpUsingComparator_0 hJ hC hQ hin _ p0 M hw
theorem hdK_J35_siftUpComparable : yJ35_siftUpComparable.cls = "java/util/PriorityQueue" ∧ yJ35_siftUpComparable.cls ≠ "java/lang/invoke/MethodHandle" ∧ yJ35_siftUpComparable.cls ≠ "java/lang/invoke/VarHandle" ∧ (parseMethodDescriptor yJ35_siftUpComparable.desc).map (fun d => d.parameters.length) = some 3 := by decide +kernel
theorem hdK_J35_siftUpUsingComparator : yJ35_siftUpUsingComparator.cls = "java/util/PriorityQueue" ∧ yJ35_siftUpUsingComparator.cls ≠ "java/lang/invoke/MethodHandle" ∧ yJ35_siftUpUsingComparator.cls ≠ "java/lang/invoke/VarHandle" ∧ (parseMethodDescriptor yJ35_siftUpUsingComparator.desc).map (fun d => d.parameters.length) = some 4 := by decide +kernel
def w_J35_siftUp_32 (g : gT) (F : Nat) (a0 : Nat) (p1 : Int32) (p2 : Option Nat) (Q : hM → Prop) (M : hM) : Prop :=
  Q M
def w_J35_siftUp (g : gT) (F : Nat) (a0 : Nat) (p1 : Int32) (p2 : Option Nat) (M : hM) (Q : hM → Prop) : Prop :=
  gF M (some a0) 29 2 fun x1 => ((x1 = none → gF M (some a0) 29 0 fun x2 => w_J35_siftUpComparable g F p1 p2 x2 M (fun M3 => w_J35_siftUp_32 g F a0 p1 p2 Q M3)) ∧ (¬ x1 = none → gF M (some a0) 29 0 fun x4 => gF M (some a0) 29 2 fun x5 => w_J35_siftUpUsingComparator g F p1 p2 x4 x5 M (fun M6 => w_J35_siftUp_32 g F a0 p1 p2 Q M6)))
theorem g_J35_siftUp_32 {k : kT} {F : Nat} {a0 : Nat} {p1 : Int32} {p2 : Option Nat} {Q : hM → Prop} (hJ : JK (kl k) (kg k)) (hC : CX k 3 cJ35_siftUp RJ35 none 5 102) (hQ : isQ k (PU Q)) (hin : (kt k).name = "siftUp") : ∀  (M : hM), w_J35_siftUp_32 (kg k) F a0 p1 p2 Q  M → GW k 3 M 32 [some (va_rf (some a0)), some (.int p1), some (va_rf p2)] [] := by
  intro  M hw
  exact G_ret (pc := 32) hC hQ dJ35_siftUp_32 hw
theorem m_J35_siftUp {l : Launch} {g : gT} {F : Nat} {a0 : Nat} {p1 : Int32} {p2 : Option Nat} {M : hM} {Q : hM → Prop} (hJ : JK l g) (hw : w_J35_siftUp g F a0 p1 p2 M Q) : MG l g yJ35_siftUp (ws_ yJ35_siftUp cJ35_siftUp 3 none) 5 102 [va_rf (some a0), .int p1, va_rf p2] M (PU Q) := by
  refine MG_of hJ.2.1 (by decide) (cat_r (cat_i (cat_r cat_e))) (Nat.le_of_ble_eq_true rfl) (fun k hl hg hin hQ hC => ?_)
  subst hl hg
  show GW k 3 M 0 [some (va_rf (some a0)), some (.int p1), some (va_rf p2)] []
  refine G_aload_n (pc := 0) (i := 0) hC dJ35_siftUp_0 rfl rfl ?_
  refine G_getF (pc := 1) (ci := 29) (C := RJ35) (T := TJ35) (N := 4) (f := 2) hC rfl in_J35 (Nat.le_of_ble_eq_true rfl) q2693 (fun _ h => h) dJ35_siftUp_1 hw (fun x1 hw => ?_)
  refine G_ifnull (pc := 4) (tgt := 23) hC dJ35_siftUp_4 (by decide) (fun hc => ?_) (fun hc => ?_)
  · replace hw := hw.1 hc
    refine G_iload_n (pc := 23) (i := 1) hC dJ35_siftUp_23 rfl rfl ?_
    refine G_aload_n (pc := 24) (i := 2) hC dJ35_siftUp_24 rfl rfl ?_
    refine G_aload_n (pc := 25) (i := 0) hC dJ35_siftUp_25 rfl rfl ?_
    refine G_getF (pc := 26) (ci := 29) (C := RJ35) (T := TJ35) (N := 4) (f := 0) hC rfl in_J35 (Nat.le_of_ble_eq_true rfl) q2690 (fun _ h => h) dJ35_siftUp_26 hw (fun x2 hw => ?_)
    refine G_callS (pc := 29) (n := 3) (As := [.int p1, va_rf p2, va_rf x2]) (rest := []) hC (m_J35_siftUpComparable hJ hw) (lw_S q1923 q1924 q129 q1925) hdK_J35_siftUpComparable.2 (by decide) rfl rfl (st_c cat_e (Nat.le_of_ble_eq_true rfl)) dJ35_siftUp_29 (kU fun M3 hw => ?_)
    exact g_J35_siftUp_32 hJ hC hQ hin   M3 hw
  · replace hw := hw.2 hc
    refine G_iload_n (pc := 7) (i := 1) hC dJ35_siftUp_7 rfl rfl ?_
    refine G_aload_n (pc := 8) (i := 2) hC dJ35_siftUp_8 rfl rfl ?_
    refine G_aload_n (pc := 9) (i := 0) hC dJ35_siftUp_9 rfl rfl ?_
    refine G_getF (pc := 10) (ci := 29) (C := RJ35) (T := TJ35) (N := 4) (f := 0) hC rfl in_J35 (Nat.le_of_ble_eq_true rfl) q2690 (fun _ h => h) dJ35_siftUp_10 hw (fun x4 hw => ?_)
    refine G_aload_n (pc := 13) (i := 0) hC dJ35_siftUp_13 rfl rfl ?_
    refine G_getF (pc := 14) (ci := 29) (C := RJ35) (T := TJ35) (N := 4) (f := 2) hC rfl in_J35 (Nat.le_of_ble_eq_true rfl) q2693 (fun _ h => h) dJ35_siftUp_14 hw (fun x5 hw => ?_)
    refine G_callS (pc := 17) (n := 4) (As := [.int p1, va_rf p2, va_rf x4, va_rf x5]) (rest := []) hC (m_J35_siftUpUsingComparator hJ hw) (lw_S q1902 q1903 q129 q1904) hdK_J35_siftUpUsingComparator.2 (by decide) rfl rfl (st_c cat_e (Nat.le_of_ble_eq_true rfl)) dJ35_siftUp_17 (kU fun M6 hw => ?_)
    refine G_goto (pc := 20) (tgt := 32) hC dJ35_siftUp_20 (by decide) ?_
    exact g_J35_siftUp_32 hJ hC hQ hin   M6 hw
def w_J35_grow_25 (g : gT) (F : Nat) (a0 : Nat) (p1 : Int32) (Q : hM → Prop) (s0 : Int32) (s1 : Int32) (s2 : Int32) (M : hM) : Prop :=
  w_J8_newLength g F s0 s1 s2 M (fun x2 M1 => gF M1 (some a0) 29 0 fun x3 => w_J10_copyOf g F x3 x2 M1 (fun x5 M4 => pV M4 (some a0) 29 0 (va_rf x5) fun M6 => Q M6))
def w_J35_grow (g : gT) (F : Nat) (a0 : Nat) (p1 : Int32) (M : hM) (Q : hM → Prop) : Prop :=
  gF M (some a0) 29 0 fun x1 => aLenK g M x1 fun x2 => (((64 : Int32) ≤ x2 → w_J35_grow_25 g F a0 p1 Q x2 (p1 - x2) (x2 >>> ((1 : Int32) &&& 31)) M) ∧ (¬ ((64 : Int32) ≤ x2) → w_J35_grow_25 g F a0 p1 Q x2 (p1 - x2) (x2 + (2 : Int32)) M))
theorem g_J35_grow_25 {k : kT} {F : Nat} {a0 : Nat} {p1 : Int32} {Q : hM → Prop} (hJ : JK (kl k) (kg k)) (hC : CX k 4 cJ35_grow RJ35 none 3 84) (hQ : isQ k (PU Q)) (hin : (kt k).name = "grow") : ∀ (s0 : Int32) (s1 : Int32) (s2 : Int32) (M : hM), w_J35_grow_25 (kg k) F a0 p1 Q s0 s1 s2 M → GW k 4 M 25 [some (va_rf (some a0)), some (.int p1), none, none] [.int s2, .int s1, .int s0] := by
  intro s0 s1 s2 M hw
  refine G_callS (pc := 25) (n := 3) (As := [.int s0, .int s1, .int s2]) (rest := []) hC (m_J8_newLength hJ hw) (lw_S q1897 q278 q94 q279) hdK_J8_newLength.2 (by decide) rfl rfl (st_c cat_e (Nat.le_of_ble_eq_true rfl)) dJ35_grow_25 (kI fun x2 M1 hw => ?_)
  refine G_istore_n (pc := 28) (i := 3) (lw := [some (va_rf (some a0)), some (.int p1), none, some (.int x2)]) hC dJ35_grow_28 rfl (Nat.le_of_ble_eq_true rfl) rfl ?_
  refine G_aload_n (pc := 29) (i := 0) hC dJ35_grow_29 rfl rfl ?_
  refine G_aload_n (pc := 30) (i := 0) hC dJ35_grow_30 rfl rfl ?_
  refine G_getF (pc := 31) (ci := 29) (C := RJ35) (T := TJ35) (N := 4) (f := 0) hC rfl in_J35 (Nat.le_of_ble_eq_true rfl) q2690 (fun _ h => h) dJ35_grow_31 hw (fun x3 hw => ?_)
  refine G_iload_n (pc := 34) (i := 3) hC dJ35_grow_34 rfl rfl ?_
  refine G_callS (pc := 35) (n := 2) (As := [va_rf x3, .int x2]) (rest := [va_rf (some a0)]) hC (m_J10_copyOf hJ hw) (lw_S q1170 q288 q96 q289) hdK_J10_copyOf.2 (by decide) rfl rfl (st_c (cat_r cat_e) (Nat.le_of_ble_eq_true rfl)) dJ35_grow_35 (kRf fun x5 M4 hw => ?_)
  refine G_put (pc := 38) (ci := 29) (C := RJ35) (T := TJ35) (N := 4) (f := 0) tyJ35 hC rfl in_J35 tyJ35_ok nmJ35 (Nat.le_of_ble_eq_true rfl) q2690 (fun _ h => h) rfl (nR_a _ _) (fR_a _ _) dJ35_grow_38 hw (fun M6 hw => ?_)
  exact G_ret (pc := 41) hC hQ dJ35_grow_41 hw
theorem m_J35_grow {l : Launch} {g : gT} {F : Nat} {a0 : Nat} {p1 : Int32} {M : hM} {Q : hM → Prop} (hJ : JK l g) (hw : w_J35_grow g F a0 p1 M Q) : MG l g yJ35_grow (ws_ yJ35_grow cJ35_grow 4 none) 3 84 [va_rf (some a0), .int p1] M (PU Q) := by
  refine MG_of hJ.2.1 (by decide) (cat_r (cat_i cat_e)) (Nat.le_of_ble_eq_true rfl) (fun k hl hg hin hQ hC => ?_)
  subst hl hg
  show GW k 4 M 0 [some (va_rf (some a0)), some (.int p1), none, none] []
  refine G_aload_n (pc := 0) (i := 0) hC dJ35_grow_0 rfl rfl ?_
  refine G_getF (pc := 1) (ci := 29) (C := RJ35) (T := TJ35) (N := 4) (f := 0) hC rfl in_J35 (Nat.le_of_ble_eq_true rfl) q2690 (fun _ h => h) dJ35_grow_1 hw (fun x1 hw => ?_)
  refine G_alenK (pc := 4) hJ hC dJ35_grow_4 hw (fun x2 hw => ?_)
  refine G_istore_n (pc := 5) (i := 2) (lw := [some (va_rf (some a0)), some (.int p1), some (.int x2), none]) hC dJ35_grow_5 rfl (Nat.le_of_ble_eq_true rfl) rfl ?_
  refine G_iload_n (pc := 6) (i := 2) hC dJ35_grow_6 rfl rfl ?_
  refine G_iload_n (pc := 7) (i := 1) hC dJ35_grow_7 rfl rfl ?_
  refine G_iload_n (pc := 8) (i := 2) hC dJ35_grow_8 rfl rfl ?_
  refine G_isub (pc := 9) hC dJ35_grow_9 ?_
  refine G_iload_n (pc := 10) (i := 2) hC dJ35_grow_10 rfl rfl ?_
  refine G_bipush (pc := 11) (v := 64) hC dJ35_grow_11 (by decide) ?_
  refine G_icmp_ge (pc := 13) (tgt := 22) hC dJ35_grow_13 (by decide) (fun hc => ?_) (fun hc => ?_)
  · replace hw := hw.1 hc
    refine G_iload_n (pc := 22) (i := 2) hC dJ35_grow_22 rfl rfl ?_
    refine G_iconst (pc := 23) (v := 1) hC dJ35_grow_23 (by decide) ?_
    refine G_ishr (pc := 24) hC dJ35_grow_24 ?_
    refine G_loc (lv' := [some (va_rf (some a0)), some (.int p1), none, none]) ⟨Or.inr rfl, Or.inr rfl, Or.inl rfl, Or.inr rfl, trivial⟩ ?_
    exact g_J35_grow_25 hJ hC hQ hin  x2 (p1 - x2) (x2 >>> ((1 : Int32) &&& 31)) M hw
  · replace hw := hw.2 hc
    refine G_iload_n (pc := 16) (i := 2) hC dJ35_grow_16 rfl rfl ?_
    refine G_iconst (pc := 17) (v := 2) hC dJ35_grow_17 (by decide) ?_
    refine G_iadd (pc := 18) hC dJ35_grow_18 ?_
    refine G_goto (pc := 19) (tgt := 25) hC dJ35_grow_19 (by decide) ?_
    refine G_loc (lv' := [some (va_rf (some a0)), some (.int p1), none, none]) ⟨Or.inr rfl, Or.inr rfl, Or.inl rfl, Or.inr rfl, trivial⟩ ?_
    exact g_J35_grow_25 hJ hC hQ hin  x2 (p1 - x2) (x2 + (2 : Int32)) M hw
theorem hdK_J35_grow : yJ35_grow.cls = "java/util/PriorityQueue" ∧ yJ35_grow.cls ≠ "java/lang/invoke/MethodHandle" ∧ yJ35_grow.cls ≠ "java/lang/invoke/VarHandle" ∧ (parseMethodDescriptor yJ35_grow.desc).map (fun d => d.parameters.length) = some 1 := by decide +kernel
theorem hdK_J35_siftUp : yJ35_siftUp.cls = "java/util/PriorityQueue" ∧ yJ35_siftUp.cls ≠ "java/lang/invoke/MethodHandle" ∧ yJ35_siftUp.cls ≠ "java/lang/invoke/VarHandle" ∧ (parseMethodDescriptor yJ35_siftUp.desc).map (fun d => d.parameters.length) = some 2 := by decide +kernel
def w_J35_offer_43 (g : gT) (F : Nat) (a0 : Nat) (p1 : Option Nat) (Q : Int32 → hM → Prop) (v2 : Int32) (M : hM) : Prop :=
  (isC M a0 29 ∧ w_J35_siftUp g F a0 v2 p1 M (fun M1 => pV M1 (some a0) 29 1 (.int (v2 + (1 : Int32))) fun M2 => Q (1 : Int32) M2))
def w_J35_offer (g : gT) (F : Nat) (a0 : Nat) (p1 : Option Nat) (M : hM) (Q : Int32 → hM → Prop) : Prop :=
  ((¬ p1 = none → gI M (some a0) 29 3 fun x1 => pV M (some a0) 29 3 (.int (x1 + (1 : Int32))) fun M2 => gI M2 (some a0) 29 1 fun x3 => gF M2 (some a0) 29 0 fun x4 => aLenK g M2 x4 fun x5 => ((x3 < x5 → w_J35_offer_43 g F a0 p1 Q x3 M2) ∧ (¬ (x3 < x5) → (isC M2 a0 29 ∧ w_J35_grow g F a0 (x3 + (1 : Int32)) M2 (fun M6 => w_J35_offer_43 g F a0 p1 Q x3 M6))))) ∧ (p1 = none → False))
theorem g_J35_offer_43 {k : kT} {F : Nat} {a0 : Nat} {p1 : Option Nat} {Q : Int32 → hM → Prop} (hJ : JK (kl k) (kg k)) (hC : CX k 3 cJ35_offer RJ35 (some .boolean) 6 124) (hQ : isQ k (PI Q)) (hin : (kt k).name = "offer") : ∀ (v2 : Int32) (M : hM), w_J35_offer_43 (kg k) F a0 p1 Q v2 M → GW k 3 M 43 [some (va_rf (some a0)), some (va_rf p1), some (.int v2)] [] := by
  intro v2 M hw
  refine G_aload_n (pc := 43) (i := 0) hC dJ35_offer_43 rfl rfl ?_
  refine G_iload_n (pc := 44) (i := 2) hC dJ35_offer_44 rfl rfl ?_
  refine G_aload_n (pc := 45) (i := 1) hC dJ35_offer_45 rfl rfl ?_
  obtain ⟨hb, hw⟩ := hw
  refine G_callV (pc := 46) (n := 2) (C := "java/util/PriorityQueue") (b := a0) (As := [.int v2, va_rf p1]) (rest := []) hC (m_J35_siftUp hJ hw) (lw_V q1898 q1900 qs26 q129 q1901) hdK_J35_siftUp (by decide) (rcv (C := RJ35) (T := TJ35) (N := 4) hC hb rfl) rfl rfl (st_c cat_e (Nat.le_of_ble_eq_true rfl)) dJ35_offer_46 (kU fun M1 hw => ?_)
  refine G_aload_n (pc := 49) (i := 0) hC dJ35_offer_49 rfl rfl ?_
  refine G_iload_n (pc := 50) (i := 2) hC dJ35_offer_50 rfl rfl ?_
  refine G_iconst (pc := 51) (v := 1) hC dJ35_offer_51 (by decide) ?_
  refine G_iadd (pc := 52) hC dJ35_offer_52 ?_
  refine G_put (pc := 53) (ci := 29) (C := RJ35) (T := TJ35) (N := 4) (f := 1) tyJ35 hC rfl in_J35 tyJ35_ok nmJ35 (Nat.le_of_ble_eq_true rfl) q2692 (fun _ h => h) rfl rfl rfl dJ35_offer_53 hw (fun M2 hw => ?_)
  refine G_iconst (pc := 56) (v := 1) hC dJ35_offer_56 (by decide) ?_
  exact G_iret (pc := 57) hC rfl hQ dJ35_offer_57 hw
theorem m_J35_offer {l : Launch} {g : gT} {F : Nat} {a0 : Nat} {p1 : Option Nat} {M : hM} {Q : Int32 → hM → Prop} (hJ : JK l g) (hw : w_J35_offer g F a0 p1 M Q) : MG l g yJ35_offer (ws_ yJ35_offer cJ35_offer 3 (some .boolean)) 6 124 [va_rf (some a0), va_rf p1] M (PI Q) := by
  refine MG_of hJ.2.1 (by decide) (cat_r (cat_r cat_e)) (Nat.le_of_ble_eq_true rfl) (fun k hl hg hin hQ hC => ?_)
  subst hl hg
  show GW k 3 M 0 [some (va_rf (some a0)), some (va_rf p1), none] []
  refine G_aload_n (pc := 0) (i := 1) hC dJ35_offer_0 rfl rfl ?_
  refine G_ifnonnull (pc := 1) (tgt := 12) hC dJ35_offer_1 (by decide) (fun hc => ?_) (fun hc => ?_)
  · replace hw := hw.1 hc
    refine G_aload_n (pc := 12) (i := 0) hC dJ35_offer_12 rfl rfl ?_
    refine G_dup (pc := 13) hC dJ35_offer_13 (rf_cat _) ?_
    refine G_getI (pc := 14) (ci := 29) (C := RJ35) (T := TJ35) (N := 4) (f := 3) hC rfl in_J35 (Nat.le_of_ble_eq_true rfl) q2695 (fun _ h => h) dJ35_offer_14 hw (fun x1 hw => ?_)
    refine G_iconst (pc := 17) (v := 1) hC dJ35_offer_17 (by decide) ?_
    refine G_iadd (pc := 18) hC dJ35_offer_18 ?_
    refine G_put (pc := 19) (ci := 29) (C := RJ35) (T := TJ35) (N := 4) (f := 3) tyJ35 hC rfl in_J35 tyJ35_ok nmJ35 (Nat.le_of_ble_eq_true rfl) q2695 (fun _ h => h) rfl rfl rfl dJ35_offer_19 hw (fun M2 hw => ?_)
    refine G_aload_n (pc := 22) (i := 0) hC dJ35_offer_22 rfl rfl ?_
    refine G_getI (pc := 23) (ci := 29) (C := RJ35) (T := TJ35) (N := 4) (f := 1) hC rfl in_J35 (Nat.le_of_ble_eq_true rfl) q2692 (fun _ h => h) dJ35_offer_23 hw (fun x3 hw => ?_)
    refine G_istore_n (pc := 26) (i := 2) (lw := [some (va_rf (some a0)), some (va_rf p1), some (.int x3)]) hC dJ35_offer_26 rfl (Nat.le_of_ble_eq_true rfl) rfl ?_
    refine G_iload_n (pc := 27) (i := 2) hC dJ35_offer_27 rfl rfl ?_
    refine G_aload_n (pc := 28) (i := 0) hC dJ35_offer_28 rfl rfl ?_
    refine G_getF (pc := 29) (ci := 29) (C := RJ35) (T := TJ35) (N := 4) (f := 0) hC rfl in_J35 (Nat.le_of_ble_eq_true rfl) q2690 (fun _ h => h) dJ35_offer_29 hw (fun x4 hw => ?_)
    refine G_alenK (pc := 32) hJ hC dJ35_offer_32 hw (fun x5 hw => ?_)
    refine G_icmp_lt (pc := 33) (tgt := 43) hC dJ35_offer_33 (by decide) (fun hc => ?_) (fun hc => ?_)
    · replace hw := hw.1 hc
      exact g_J35_offer_43 hJ hC hQ hin  x3 M2 hw
    · replace hw := hw.2 hc
      refine G_aload_n (pc := 36) (i := 0) hC dJ35_offer_36 rfl rfl ?_
      refine G_iload_n (pc := 37) (i := 2) hC dJ35_offer_37 rfl rfl ?_
      refine G_iconst (pc := 38) (v := 1) hC dJ35_offer_38 (by decide) ?_
      refine G_iadd (pc := 39) hC dJ35_offer_39 ?_
      obtain ⟨hb, hw⟩ := hw
      refine G_callV (pc := 40) (n := 1) (C := "java/util/PriorityQueue") (b := a0) (As := [.int (x3 + (1 : Int32))]) (rest := []) hC (m_J35_grow hJ hw) (lw_V q1892 q1894 qs25 q129 q1896) hdK_J35_grow (by decide) (rcv (C := RJ35) (T := TJ35) (N := 4) hC hb rfl) rfl rfl (st_c cat_e (Nat.le_of_ble_eq_true rfl)) dJ35_offer_40 (kU fun M6 hw => ?_)
      exact g_J35_offer_43 hJ hC hQ hin  x3 M6 hw
  · replace hw := hw.2 hc
    exact hw.elim
theorem hdK_J35_offer : yJ35_offer.cls = "java/util/PriorityQueue" ∧ yJ35_offer.cls ≠ "java/lang/invoke/MethodHandle" ∧ yJ35_offer.cls ≠ "java/lang/invoke/VarHandle" ∧ (parseMethodDescriptor yJ35_offer.desc).map (fun d => d.parameters.length) = some 1 := by decide +kernel
def w_J35_add (g : gT) (F : Nat) (a0 : Nat) (p1 : Option Nat) (M : hM) (Q : Int32 → hM → Prop) : Prop :=
  (isC M a0 29 ∧ w_J35_offer g F a0 p1 M (fun x2 M1 => ((x2 = 0 ∨ x2 = 1) ∧ Q x2 M1)))
theorem m_J35_add {l : Launch} {g : gT} {F : Nat} {a0 : Nat} {p1 : Option Nat} {M : hM} {Q : Int32 → hM → Prop} (hJ : JK l g) (hw : w_J35_add g F a0 p1 M Q) : MG l g yJ35_add (ws_ yJ35_add cJ35_add 2 (some .boolean)) 7 146 [va_rf (some a0), va_rf p1] M (PI Q) := by
  refine MG_of hJ.2.1 (by decide) (cat_r (cat_r cat_e)) (Nat.le_of_ble_eq_true rfl) (fun k hl hg hin hQ hC => ?_)
  subst hl hg
  show GW k 2 M 0 [some (va_rf (some a0)), some (va_rf p1)] []
  refine G_aload_n (pc := 0) (i := 0) hC dJ35_add_0 rfl rfl ?_
  refine G_aload_n (pc := 1) (i := 1) hC dJ35_add_1 rfl rfl ?_
  obtain ⟨hb, hw⟩ := hw
  refine G_callV (pc := 2) (n := 1) (C := "java/util/PriorityQueue") (b := a0) (As := [va_rf p1]) (rest := []) hC (m_J35_offer hJ hw) (lw_V q1888 q1889 q1890 q129 q1891) hdK_J35_offer (by decide) (rcv (C := RJ35) (T := TJ35) (N := 4) hC hb rfl) rfl rfl (st_c cat_e (Nat.le_of_ble_eq_true rfl)) dJ35_add_2 (kI fun x2 M1 hw => ?_)
  obtain ⟨hz, hw⟩ := hw
  exact G_iret (pc := 5) hC (nz_n hz) hQ dJ35_add_5 hw
def w_J7_newBytesLength (g : gT) (F : Nat) (p0 : Int32) (M : hM) (Q : Int32 → hM → Prop) : Prop :=
  ((0 ≤ p0 → ((p0 < (1073741823 : Int32) → Q (p0 <<< ((1 : Int32) &&& 31)) M) ∧ (¬ (p0 < (1073741823 : Int32)) → False))) ∧ (¬ (0 ≤ p0) → False))
theorem m_J7_newBytesLength {l : Launch} {g : gT} {F : Nat} {p0 : Int32} {M : hM} {Q : Int32 → hM → Prop} (hJ : JK l g) (hw : w_J7_newBytesLength g F p0 M Q) : MG l g yJ7_newBytesLength (ws_ yJ7_newBytesLength cJ7_newBytesLength 1 (some .int)) 1 12 [.int p0] M (PI Q) := by
  refine MG_of hJ.2.1 (by decide) (cat_i cat_e) (Nat.le_of_ble_eq_true rfl) (fun k hl hg hin hQ hC => ?_)
  subst hl hg
  show GW k 1 M 0 [some (.int p0)] []
  refine G_iload_n (pc := 0) (i := 0) hC dJ7_newBytesLength_0 rfl rfl ?_
  refine G_if_ge (pc := 1) (tgt := 12) hC dJ7_newBytesLength_1 (by decide) (fun hc => ?_) (fun hc => ?_)
  · replace hw := hw.1 hc
    refine G_iload_n (pc := 12) (i := 0) hC dJ7_newBytesLength_12 rfl rfl ?_
    refine G_ldcI (pc := 13) (v := 1073741823) hC q239 dJ7_newBytesLength_13 ?_
    refine G_icmp_lt (pc := 15) (tgt := 55) hC dJ7_newBytesLength_15 (by decide) (fun hc => ?_) (fun hc => ?_)
    · replace hw := hw.1 hc
      refine G_iload_n (pc := 55) (i := 0) hC dJ7_newBytesLength_55 rfl rfl ?_
      refine G_iconst (pc := 56) (v := 1) hC dJ7_newBytesLength_56 (by decide) ?_
      refine G_ishl (pc := 57) hC dJ7_newBytesLength_57 ?_
      exact G_iret (pc := 58) hC rfl hQ dJ7_newBytesLength_58 hw
    · replace hw := hw.2 hc
      exact hw.elim
  · replace hw := hw.2 hc
    exact hw.elim
theorem hdK_J7_newBytesLength : yJ7_newBytesLength.cls = "java/lang/StringUTF16" ∧ yJ7_newBytesLength.cls ≠ "java/lang/invoke/MethodHandle" ∧ yJ7_newBytesLength.cls ≠ "java/lang/invoke/VarHandle" ∧ (parseMethodDescriptor yJ7_newBytesLength.desc).map (fun d => d.parameters.length) = some 1 := by decide +kernel
def w_J7_newBytesFor (g : gT) (F : Nat) (p0 : Int32) (M : hM) (Q : Option Nat → hM → Prop) : Prop :=
  w_J7_newBytesLength g F p0 M (fun x2 M1 => nA M1 4 x2 (.inl (fun _ => 0)) fun q3 M4 => Q (some q3) M4)
theorem m_J7_newBytesFor {l : Launch} {g : gT} {F : Nat} {p0 : Int32} {M : hM} {Q : Option Nat → hM → Prop} (hJ : JK l g) (hw : w_J7_newBytesFor g F p0 M Q) : MG l g yJ7_newBytesFor (ws_ yJ7_newBytesFor cJ7_newBytesFor 1 (some (.array .byte))) 2 32 [.int p0] M (PR Q) := by
  refine MG_of hJ.2.1 (by decide) (cat_i cat_e) (Nat.le_of_ble_eq_true rfl) (fun k hl hg hin hQ hC => ?_)
  subst hl hg
  show GW k 1 M 0 [some (.int p0)] []
  refine G_iload_n (pc := 0) (i := 0) hC dJ7_newBytesFor_0 rfl rfl ?_
  refine G_callS (pc := 1) (n := 1) (As := [.int p0]) (rest := []) hC (m_J7_newBytesLength hJ hw) (lw_S q236 q237 q93 q238) hdK_J7_newBytesLength.2 (by decide) rfl rfl (st_c cat_e (Nat.le_of_ble_eq_true rfl)) dJ7_newBytesFor_1 (kI fun x2 M1 hw => ?_)
  refine G_newB (pc := 4) hC q254 dJ7_newBytesFor_4 hw (fun q3 M4 hw => ?_)
  exact G_aret (pc := 6) hC (Or.inr ⟨_, rfl⟩) hQ dJ7_newBytesFor_6 hw
theorem hdK_J7_newBytesFor : yJ7_newBytesFor.cls = "java/lang/StringUTF16" ∧ yJ7_newBytesFor.cls ≠ "java/lang/invoke/MethodHandle" ∧ yJ7_newBytesFor.cls ≠ "java/lang/invoke/VarHandle" ∧ (parseMethodDescriptor yJ7_newBytesFor.desc).map (fun d => d.parameters.length) = some 1 := by decide +kernel
def w_J4_init_s23_38 (g : gT) (F : Nat) (a0 : Nat) (p1 : Int32) (Q : hM → Prop) (M : hM) : Prop :=
  Q M
def w_J4_init_s23 (g : gT) (F : Nat) (a0 : Nat) (p1 : Int32) (M : hM) (Q : hM → Prop) : Prop :=
  (((1 : Int32) = 0 → w_J7_newBytesFor g F p1 M (fun x2 M1 => pV M1 (some a0) 23 0 (va_rf x2) fun M3 => pV M3 (some a0) 23 1 (.int (1 : Int32)) fun M4 => w_J4_init_s23_38 g F a0 p1 Q M4)) ∧ (¬ ((1 : Int32) = 0) → nA M 4 p1 (.inl (fun _ => 0)) fun q5 M6 => pV M6 (some a0) 23 0 (va_rf (some q5)) fun M7 => pV M7 (some a0) 23 1 (.int (0 : Int32)) fun M8 => w_J4_init_s23_38 g F a0 p1 Q M8))
theorem g_J4_init_s23_38 {k : kT} {F : Nat} {a0 : Nat} {p1 : Int32} {Q : hM → Prop} (hJ : JK (kl k) (kg k)) (hC : CX k 2 cJ4_init RJ4 none 3 52) (hQ : isQ k (PU Q)) (hin : (kt k).name = "<init>") : ∀  (M : hM), w_J4_init_s23_38 (kg k) F a0 p1 Q  M → GW k 2 M 38 [some (va_rf (some a0)), some (.int p1)] [] := by
  intro  M hw
  exact G_ret (pc := 38) hC hQ dJ4_init_38 hw
theorem m_J4_init_s23 {l : Launch} {g : gT} {F : Nat} {a0 : Nat} {p1 : Int32} {M : hM} {Q : hM → Prop} (hJ : JK l g) (hw : w_J4_init_s23 g F a0 p1 M Q) : MG l g yJ4_init (ws_ yJ4_init cJ4_init 2 none) 3 52 [va_rf (some a0), .int p1] M (PU Q) := by
  refine MG_of hJ.2.1 (by decide) (cat_r (cat_i cat_e)) (Nat.le_of_ble_eq_true rfl) (fun k hl hg hin hQ hC => ?_)
  subst hl hg
  show GW k 2 M 0 [some (va_rf (some a0)), some (.int p1)] []
  refine G_aload_n (pc := 0) (i := 0) hC dJ4_init_0 rfl rfl ?_
  refine G_objInit (pc := 1) hC q230 q158 q159 rfl rfl (st_c cat_e (Nat.le_of_ble_eq_true rfl)) dJ4_init_1 ?_
  refine G_gets (pc := 4) (v := .int (1 : Int32)) hC (hC.sK hJ).2.2.2.2.2.2.1 q231 (fun _ h => h) dJ4_init_4 ?_
  refine G_if_eq (pc := 7) (tgt := 25) hC dJ4_init_7 (by decide) (fun hc => ?_) (fun hc => ?_)
  · replace hw := hw.1 hc
    refine G_aload_n (pc := 25) (i := 0) hC dJ4_init_25 rfl rfl ?_
    refine G_iload_n (pc := 26) (i := 1) hC dJ4_init_26 rfl rfl ?_
    refine G_callS (pc := 27) (n := 1) (As := [.int p1]) (rest := [va_rf (some a0)]) hC (m_J7_newBytesFor hJ hw) (lw_S q233 q234 q93 q235) hdK_J7_newBytesFor.2 (by decide) rfl rfl (st_c (cat_r cat_e) (Nat.le_of_ble_eq_true rfl)) dJ4_init_27 (kRf fun x2 M1 hw => ?_)
    refine G_put (pc := 30) (ci := 23) (C := RJ5) (T := TJ5) (N := 4) (f := 0) tyJ5 hC rfl in_J5 tyJ5_ok nmJ5 (Nat.le_of_ble_eq_true rfl) q240 (fun _ h => h) rfl (nR_a _ _) (fR_a _ _) dJ4_init_30 hw (fun M3 hw => ?_)
    refine G_aload_n (pc := 33) (i := 0) hC dJ4_init_33 rfl rfl ?_
    refine G_iconst (pc := 34) (v := 1) hC dJ4_init_34 (by decide) ?_
    refine G_put (pc := 35) (ci := 23) (C := RJ5) (T := TJ5) (N := 4) (f := 1) tyJ5 hC rfl in_J5 tyJ5_ok nmJ5 (Nat.le_of_ble_eq_true rfl) q241 (fun _ h => h) rfl rfl rfl dJ4_init_35 hw (fun M4 hw => ?_)
    exact g_J4_init_s23_38 hJ hC hQ hin   M4 hw
  · replace hw := hw.2 hc
    refine G_aload_n (pc := 10) (i := 0) hC dJ4_init_10 rfl rfl ?_
    refine G_iload_n (pc := 11) (i := 1) hC dJ4_init_11 rfl rfl ?_
    refine G_newB (pc := 12) hC q254 dJ4_init_12 hw (fun q5 M6 hw => ?_)
    refine G_put (pc := 14) (ci := 23) (C := RJ5) (T := TJ5) (N := 4) (f := 0) tyJ5 hC rfl in_J5 tyJ5_ok nmJ5 (Nat.le_of_ble_eq_true rfl) q240 (fun _ h => h) rfl (nR_a _ _) (fR_a _ _) dJ4_init_14 hw (fun M7 hw => ?_)
    refine G_aload_n (pc := 17) (i := 0) hC dJ4_init_17 rfl rfl ?_
    refine G_iconst (pc := 18) (v := 0) hC dJ4_init_18 (by decide) ?_
    refine G_put (pc := 19) (ci := 23) (C := RJ5) (T := TJ5) (N := 4) (f := 1) tyJ5 hC rfl in_J5 tyJ5_ok nmJ5 (Nat.le_of_ble_eq_true rfl) q241 (fun _ h => h) rfl rfl rfl dJ4_init_19 hw (fun M8 hw => ?_)
    refine G_goto (pc := 22) (tgt := 38) hC dJ4_init_22 (by decide) ?_
    exact g_J4_init_s23_38 hJ hC hQ hin   M8 hw
theorem hdK_J4_init_s23 : yJ4_init.cls = "java/lang/AbstractStringBuilder" ∧ yJ4_init.cls ≠ "java/lang/invoke/MethodHandle" ∧ yJ4_init.cls ≠ "java/lang/invoke/VarHandle" ∧ (parseMethodDescriptor yJ4_init.desc).map (fun d => d.parameters.length) = some 1 := by decide +kernel
def w_J5_init (g : gT) (F : Nat) (a0 : Nat) (M : hM) (Q : hM → Prop) : Prop :=
  (isC M a0 23 ∧ w_J4_init_s23 g F a0 (16 : Int32) M (fun M1 => Q M1))
theorem m_J5_init {l : Launch} {g : gT} {F : Nat} {a0 : Nat} {M : hM} {Q : hM → Prop} (hJ : JK l g) (hw : w_J5_init g F a0 M Q) : MG l g yJ5_init (ws_ yJ5_init cJ5_init 1 none) 4 73 [va_rf (some a0)] M (PU Q) := by
  refine MG_of hJ.2.1 (by decide) (cat_r cat_e) (Nat.le_of_ble_eq_true rfl) (fun k hl hg hin hQ hC => ?_)
  subst hl hg
  show GW k 1 M 0 [some (va_rf (some a0))] []
  refine G_aload_n (pc := 0) (i := 0) hC dJ5_init_0 rfl rfl ?_
  refine G_bipush (pc := 1) (v := 16) hC dJ5_init_1 (by decide) ?_
  obtain ⟨hb, hw⟩ := hw
  refine G_callI (pc := 3) (n := 1) (b := a0) (As := [.int (16 : Int32)]) (rest := []) hC (m_J4_init_s23 hJ hw) (lw_meth q229) q90 q227 q228 rfl hdK_J4_init_s23.2 (by decide) rfl rfl (st_c cat_e (Nat.le_of_ble_eq_true rfl)) dJ5_init_3 (kU fun M1 hw => ?_)
  exact G_ret (pc := 6) hC hQ dJ5_init_6 hw
def w_J7_length (g : gT) (F : Nat) (p0 : Option Nat) (M : hM) (Q : Int32 → hM → Prop) : Prop :=
  aLenK g M p0 fun x1 => Q (x1 >>> ((1 : Int32) &&& 31)) M
theorem m_J7_length {l : Launch} {g : gT} {F : Nat} {p0 : Option Nat} {M : hM} {Q : Int32 → hM → Prop} (hJ : JK l g) (hw : w_J7_length g F p0 M Q) : MG l g yJ7_length (ws_ yJ7_length cJ7_length 1 (some .int)) 1 12 [va_rf p0] M (PI Q) := by
  refine MG_of hJ.2.1 (by decide) (cat_r cat_e) (Nat.le_of_ble_eq_true rfl) (fun k hl hg hin hQ hC => ?_)
  subst hl hg
  show GW k 1 M 0 [some (va_rf p0)] []
  refine G_aload_n (pc := 0) (i := 0) hC dJ7_length_0 rfl rfl ?_
  refine G_alenK (pc := 1) hJ hC dJ7_length_1 hw (fun x1 hw => ?_)
  refine G_iconst (pc := 2) (v := 1) hC dJ7_length_2 (by decide) ?_
  refine G_ishr (pc := 3) hC dJ7_length_3 ?_
  exact G_iret (pc := 4) hC rfl hQ dJ7_length_4 hw
def w_J6_checkIndex (g : gT) (F : Nat) (p0 : Int32) (p1 : Int32) (M : hM) (Q : hM → Prop) : Prop :=
  (∀ x1 : Option Nat, w_J16_checkIndex g F p0 p1 x1 M (fun x3 M2 => Q M2))
theorem m_J6_checkIndex {l : Launch} {g : gT} {F : Nat} {p0 : Int32} {p1 : Int32} {M : hM} {Q : hM → Prop} (hJ : JK l g) (hw : w_J6_checkIndex g F p0 p1 M Q) : MG l g yJ6_checkIndex (ws_ yJ6_checkIndex cJ6_checkIndex 2 none) 2 34 [.int p0, .int p1] M (PU Q) := by
  refine MG_of hJ.2.1 (by decide) (cat_i (cat_i cat_e)) (Nat.le_of_ble_eq_true rfl) (fun k hl hg hin hQ hC => ?_)
  subst hl hg
  show GW k 2 M 0 [some (.int p0), some (.int p1)] []
  refine G_iload_n (pc := 0) (i := 0) hC dJ6_checkIndex_0 rfl rfl ?_
  refine G_iload_n (pc := 1) (i := 1) hC dJ6_checkIndex_1 rfl rfl ?_
  refine G_getsQ (pc := 2) hC (hC.sK hJ).2.2.2.2.2.2.2.2.2.2.1 q481 (fun _ h => h) dJ6_checkIndex_2 (fun x1 => ?_)
  replace hw := hw x1
  refine G_callS (pc := 5) (n := 3) (As := [.int p0, .int p1, va_rf x1]) (rest := []) hC (m_J16_checkIndex hJ hw) (lw_S q1742 q965 q103 q966) hdK_J16_checkIndex.2 (by decide) rfl rfl (st_c cat_e (Nat.le_of_ble_eq_true rfl)) dJ6_checkIndex_5 (kI fun x3 M2 hw => ?_)
  refine G_pop (pc := 8) hC dJ6_checkIndex_8 rfl ?_
  exact G_ret (pc := 9) hC hQ dJ6_checkIndex_9 hw
theorem hdK_J6_checkIndex : yJ6_checkIndex.cls = "java/lang/String" ∧ yJ6_checkIndex.cls ≠ "java/lang/invoke/MethodHandle" ∧ yJ6_checkIndex.cls ≠ "java/lang/invoke/VarHandle" ∧ (parseMethodDescriptor yJ6_checkIndex.desc).map (fun d => d.parameters.length) = some 2 := by decide +kernel
theorem hdK_J7_length : yJ7_length.cls = "java/lang/StringUTF16" ∧ yJ7_length.cls ≠ "java/lang/invoke/MethodHandle" ∧ yJ7_length.cls ≠ "java/lang/invoke/VarHandle" ∧ (parseMethodDescriptor yJ7_length.desc).map (fun d => d.parameters.length) = some 1 := by decide +kernel
def w_J7_checkIndex (g : gT) (F : Nat) (p0 : Int32) (p1 : Option Nat) (M : hM) (Q : hM → Prop) : Prop :=
  w_J7_length g F p1 M (fun x2 M1 => w_J6_checkIndex g F p0 x2 M1 (fun M3 => Q M3))
theorem m_J7_checkIndex {l : Launch} {g : gT} {F : Nat} {p0 : Int32} {p1 : Option Nat} {M : hM} {Q : hM → Prop} (hJ : JK l g) (hw : w_J7_checkIndex g F p0 p1 M Q) : MG l g yJ7_checkIndex (ws_ yJ7_checkIndex cJ7_checkIndex 2 none) 3 55 [.int p0, va_rf p1] M (PU Q) := by
  refine MG_of hJ.2.1 (by decide) (cat_i (cat_r cat_e)) (Nat.le_of_ble_eq_true rfl) (fun k hl hg hin hQ hC => ?_)
  subst hl hg
  show GW k 2 M 0 [some (.int p0), some (va_rf p1)] []
  refine G_iload_n (pc := 0) (i := 0) hC dJ7_checkIndex_0 rfl rfl ?_
  refine G_aload_n (pc := 1) (i := 1) hC dJ7_checkIndex_1 rfl rfl ?_
  refine G_callS (pc := 2) (n := 1) (As := [va_rf p1]) (rest := [.int p0]) hC (m_J7_length hJ hw) (lw_S q475 q476 q93 q477) hdK_J7_length.2 (by decide) rfl rfl (st_c (cat_i cat_e) (Nat.le_of_ble_eq_true rfl)) dJ7_checkIndex_2 (kI fun x2 M1 hw => ?_)
  refine G_callS (pc := 5) (n := 2) (As := [.int p0, .int x2]) (rest := []) hC (m_J6_checkIndex hJ hw) (lw_S q1739 q1740 q92 q1741) hdK_J6_checkIndex.2 (by decide) rfl rfl (st_c cat_e (Nat.le_of_ble_eq_true rfl)) dJ7_checkIndex_5 (kU fun M3 hw => ?_)
  exact G_ret (pc := 8) hC hQ dJ7_checkIndex_8 hw
def w_J7_putChar_28 (g : gT) (F : Nat) (p0 : Option Nat) (p2 : Int32) (Q : hM → Prop) (v1 : Int32) (M : hM) : Prop :=
  sI M p0 4 (v1 <<< ((1 : Int32) &&& 31)) (vp_nar .byte ((p2 >>> ((0 : Int32) &&& 31))).toInt8.toInt32) fun M1 => sI M1 p0 4 ((v1 <<< ((1 : Int32) &&& 31)) + (1 : Int32)) (vp_nar .byte ((p2 >>> ((8 : Int32) &&& 31))).toInt8.toInt32) fun M2 => Q M2
def w_J7_putChar_18 (g : gT) (F : Nat) (p0 : Option Nat) (p2 : Int32) (Q : hM → Prop) (M : hM) : Prop :=
  False
def w_J7_putChar (g : gT) (F : Nat) (p0 : Option Nat) (p1 : Int32) (p2 : Int32) (M : hM) (Q : hM → Prop) : Prop :=
  ((¬ (1 : Int32) = 0 → w_J7_putChar_28 g F p0 p2 Q p1 M) ∧ ((1 : Int32) = 0 → ((p1 < 0 → w_J7_putChar_18 g F p0 p2 Q M) ∧ (¬ (p1 < 0) → w_J7_length g F p0 M (fun x2 M1 => ((p1 < x2 → w_J7_putChar_28 g F p0 p2 Q p1 M1) ∧ (¬ (p1 < x2) → w_J7_putChar_18 g F p0 p2 Q M1)))))))
theorem g_J7_putChar_28 {k : kT} {F : Nat} {p0 : Option Nat} {p2 : Int32} {Q : hM → Prop} (hJ : JK (kl k) (kg k)) (hC : CX k 3 cJ7_putChar RJ7 none 2 32) (hQ : isQ k (PU Q)) (hin : (kt k).name = "putChar") : ∀ (v1 : Int32) (M : hM), w_J7_putChar_28 (kg k) F p0 p2 Q v1 M → GW k 3 M 28 [some (va_rf p0), some (.int v1), some (.int p2)] [] := by
  intro v1 M hw
  refine G_iload_n (pc := 28) (i := 1) hC dJ7_putChar_28 rfl rfl ?_
  refine G_iconst (pc := 29) (v := 1) hC dJ7_putChar_29 (by decide) ?_
  refine G_ishl (pc := 30) hC dJ7_putChar_30 ?_
  refine G_istore_n (pc := 31) (i := 1) (lw := [some (va_rf p0), some (.int (v1 <<< ((1 : Int32) &&& 31))), some (.int p2)]) hC dJ7_putChar_31 rfl (Nat.le_of_ble_eq_true rfl) rfl ?_
  refine G_aload_n (pc := 32) (i := 0) hC dJ7_putChar_32 rfl rfl ?_
  refine G_iload_n (pc := 33) (i := 1) hC dJ7_putChar_33 rfl rfl ?_
  refine G_iinc (pc := 34) (i := 1) (v := ((v1 <<< ((1 : Int32) &&& 31)) + (1 : Int32))) (lw := [some (va_rf p0), some (.int ((v1 <<< ((1 : Int32) &&& 31)) + (1 : Int32))), some (.int p2)]) hC dJ7_putChar_34 rfl (Nat.le_of_ble_eq_true rfl) rfl rfl ?_
  refine G_iload_n (pc := 37) (i := 2) hC dJ7_putChar_37 rfl rfl ?_
  refine G_gets (pc := 38) (v := .int (0 : Int32)) hC (hC.sK hJ).2.2.2.2.2.2.2.2.1 q491 (fun _ h => h) dJ7_putChar_38 ?_
  refine G_ishr (pc := 41) hC dJ7_putChar_41 ?_
  refine G_i2b (pc := 42) hC dJ7_putChar_42 ?_
  refine G_bast (pc := 43) hC dJ7_putChar_43 hw (fun M1 hw => ?_)
  refine G_aload_n (pc := 44) (i := 0) hC dJ7_putChar_44 rfl rfl ?_
  refine G_iload_n (pc := 45) (i := 1) hC dJ7_putChar_45 rfl rfl ?_
  refine G_iload_n (pc := 46) (i := 2) hC dJ7_putChar_46 rfl rfl ?_
  refine G_gets (pc := 47) (v := .int (8 : Int32)) hC (hC.sK hJ).2.2.2.2.2.2.2.2.2.1 q493 (fun _ h => h) dJ7_putChar_47 ?_
  refine G_ishr (pc := 50) hC dJ7_putChar_50 ?_
  refine G_i2b (pc := 51) hC dJ7_putChar_51 ?_
  refine G_bast (pc := 52) hC dJ7_putChar_52 hw (fun M2 hw => ?_)
  exact G_ret (pc := 53) hC hQ dJ7_putChar_53 hw
theorem g_J7_putChar_18 {k : kT} {F : Nat} {p0 : Option Nat} {p2 : Int32} {Q : hM → Prop} (hJ : JK (kl k) (kg k)) (hC : CX k 3 cJ7_putChar RJ7 none 2 32) (hQ : isQ k (PU Q)) (hin : (kt k).name = "putChar") : ∀  (M : hM), w_J7_putChar_18 (kg k) F p0 p2 Q  M → GW k 3 M 18 [some (va_rf p0), none, some (.int p2)] [] := by
  intro  M hw
  exact hw.elim
theorem m_J7_putChar {l : Launch} {g : gT} {F : Nat} {p0 : Option Nat} {p1 : Int32} {p2 : Int32} {M : hM} {Q : hM → Prop} (hJ : JK l g) (hw : w_J7_putChar g F p0 p1 p2 M Q) : MG l g yJ7_putChar (ws_ yJ7_putChar cJ7_putChar 3 none) 2 32 [va_rf p0, .int p1, .int p2] M (PU Q) := by
  refine MG_of hJ.2.1 (by decide) (cat_r (cat_i (cat_i cat_e))) (Nat.le_of_ble_eq_true rfl) (fun k hl hg hin hQ hC => ?_)
  subst hl hg
  show GW k 3 M 0 [some (va_rf p0), some (.int p1), some (.int p2)] []
  refine G_gets (pc := 0) (v := .int (1 : Int32)) hC (hC.sK hJ).2.2.2.2.2.2.2.1 q489 (fun _ h => h) dJ7_putChar_0 ?_
  refine G_if_ne (pc := 3) (tgt := 28) hC dJ7_putChar_3 (by decide) (fun hc => ?_) (fun hc => ?_)
  · replace hw := hw.1 hc
    exact g_J7_putChar_28 hJ hC hQ hin  p1 M hw
  · replace hw := hw.2 hc
    refine G_iload_n (pc := 6) (i := 1) hC dJ7_putChar_6 rfl rfl ?_
    refine G_if_lt (pc := 7) (tgt := 18) hC dJ7_putChar_7 (by decide) (fun hc => ?_) (fun hc => ?_)
    · replace hw := hw.1 hc
      refine G_loc (lv' := [some (va_rf p0), none, some (.int p2)]) ⟨Or.inr rfl, Or.inl rfl, Or.inr rfl, trivial⟩ ?_
      exact g_J7_putChar_18 hJ hC hQ hin   M hw
    · replace hw := hw.2 hc
      refine G_iload_n (pc := 10) (i := 1) hC dJ7_putChar_10 rfl rfl ?_
      refine G_aload_n (pc := 11) (i := 0) hC dJ7_putChar_11 rfl rfl ?_
      refine G_callS (pc := 12) (n := 1) (As := [va_rf p0]) (rest := [.int p1]) hC (m_J7_length hJ hw) (lw_S q475 q476 q93 q477) hdK_J7_length.2 (by decide) rfl rfl (st_c (cat_i cat_e) (Nat.le_of_ble_eq_true rfl)) dJ7_putChar_12 (kI fun x2 M1 hw => ?_)
      refine G_icmp_lt (pc := 15) (tgt := 28) hC dJ7_putChar_15 (by decide) (fun hc => ?_) (fun hc => ?_)
      · replace hw := hw.1 hc
        exact g_J7_putChar_28 hJ hC hQ hin  p1 M1 hw
      · replace hw := hw.2 hc
        refine G_loc (lv' := [some (va_rf p0), none, some (.int p2)]) ⟨Or.inr rfl, Or.inl rfl, Or.inr rfl, trivial⟩ ?_
        exact g_J7_putChar_18 hJ hC hQ hin   M1 hw
theorem hdK_J7_checkIndex : yJ7_checkIndex.cls = "java/lang/StringUTF16" ∧ yJ7_checkIndex.cls ≠ "java/lang/invoke/MethodHandle" ∧ yJ7_checkIndex.cls ≠ "java/lang/invoke/VarHandle" ∧ (parseMethodDescriptor yJ7_checkIndex.desc).map (fun d => d.parameters.length) = some 2 := by decide +kernel
theorem hdK_J7_putChar : yJ7_putChar.cls = "java/lang/StringUTF16" ∧ yJ7_putChar.cls ≠ "java/lang/invoke/MethodHandle" ∧ yJ7_putChar.cls ≠ "java/lang/invoke/VarHandle" ∧ (parseMethodDescriptor yJ7_putChar.desc).map (fun d => d.parameters.length) = some 3 := by decide +kernel
def w_J7_putCharSB (g : gT) (F : Nat) (p0 : Option Nat) (p1 : Int32) (p2 : Int32) (M : hM) (Q : hM → Prop) : Prop :=
  w_J7_checkIndex g F p1 p0 M (fun M1 => w_J7_putChar g F p0 p1 p2 M1 (fun M2 => Q M2))
theorem m_J7_putCharSB {l : Launch} {g : gT} {F : Nat} {p0 : Option Nat} {p1 : Int32} {p2 : Int32} {M : hM} {Q : hM → Prop} (hJ : JK l g) (hw : w_J7_putCharSB g F p0 p1 p2 M Q) : MG l g yJ7_putCharSB (ws_ yJ7_putCharSB cJ7_putCharSB 3 none) 4 76 [va_rf p0, .int p1, .int p2] M (PU Q) := by
  refine MG_of hJ.2.1 (by decide) (cat_r (cat_i (cat_i cat_e))) (Nat.le_of_ble_eq_true rfl) (fun k hl hg hin hQ hC => ?_)
  subst hl hg
  show GW k 3 M 0 [some (va_rf p0), some (.int p1), some (.int p2)] []
  refine G_iload_n (pc := 0) (i := 1) hC dJ7_putCharSB_0 rfl rfl ?_
  refine G_aload_n (pc := 1) (i := 0) hC dJ7_putCharSB_1 rfl rfl ?_
  refine G_callS (pc := 2) (n := 2) (As := [.int p1, va_rf p0]) (rest := []) hC (m_J7_checkIndex hJ hw) (lw_S q1736 q1737 q93 q1738) hdK_J7_checkIndex.2 (by decide) rfl rfl (st_c cat_e (Nat.le_of_ble_eq_true rfl)) dJ7_putCharSB_2 (kU fun M1 hw => ?_)
  refine G_aload_n (pc := 5) (i := 0) hC dJ7_putCharSB_5 rfl rfl ?_
  refine G_iload_n (pc := 6) (i := 1) hC dJ7_putCharSB_6 rfl rfl ?_
  refine G_iload_n (pc := 7) (i := 2) hC dJ7_putCharSB_7 rfl rfl ?_
  refine G_callS (pc := 8) (n := 3) (As := [va_rf p0, .int p1, .int p2]) (rest := []) hC (m_J7_putChar hJ hw) (lw_S q486 q487 q93 q488) hdK_J7_putChar.2 (by decide) rfl rfl (st_c cat_e (Nat.le_of_ble_eq_true rfl)) dJ7_putCharSB_8 (kU fun M2 hw => ?_)
  exact G_ret (pc := 11) hC hQ dJ7_putCharSB_11 hw
def w_J4_isLatin1_s23_18 (g : gT) (F : Nat) (a0 : Nat) (Q : Int32 → hM → Prop) (s0 : Int32) (M : hM) : Prop :=
  ((s0 = 0 ∨ s0 = 1) ∧ Q s0 M)
def w_J4_isLatin1_s23_17 (g : gT) (F : Nat) (a0 : Nat) (Q : Int32 → hM → Prop) (M : hM) : Prop :=
  w_J4_isLatin1_s23_18 g F a0 Q (0 : Int32) M
def w_J4_isLatin1_s23 (g : gT) (F : Nat) (a0 : Nat) (M : hM) (Q : Int32 → hM → Prop) : Prop :=
  (((1 : Int32) = 0 → w_J4_isLatin1_s23_17 g F a0 Q M) ∧ (¬ ((1 : Int32) = 0) → gI M (some a0) 23 1 fun x1 => ((¬ x1 = 0 → w_J4_isLatin1_s23_17 g F a0 Q M) ∧ (x1 = 0 → w_J4_isLatin1_s23_18 g F a0 Q (1 : Int32) M))))
theorem g_J4_isLatin1_s23_18 {k : kT} {F : Nat} {a0 : Nat} {Q : Int32 → hM → Prop} (hJ : JK (kl k) (kg k)) (hC : CX k 1 cJ4_isLatin1 RJ4 (some .boolean) 1 12) (hQ : isQ k (PI Q)) (hin : (kt k).name = "isLatin1") : ∀ (s0 : Int32) (M : hM), w_J4_isLatin1_s23_18 (kg k) F a0 Q s0 M → GW k 1 M 18 [some (va_rf (some a0))] [.int s0] := by
  intro s0 M hw
  obtain ⟨hz, hw⟩ := hw
  exact G_iret (pc := 18) hC (nz_n hz) hQ dJ4_isLatin1_18 hw
theorem g_J4_isLatin1_s23_17 {k : kT} {F : Nat} {a0 : Nat} {Q : Int32 → hM → Prop} (hJ : JK (kl k) (kg k)) (hC : CX k 1 cJ4_isLatin1 RJ4 (some .boolean) 1 12) (hQ : isQ k (PI Q)) (hin : (kt k).name = "isLatin1") : ∀  (M : hM), w_J4_isLatin1_s23_17 (kg k) F a0 Q  M → GW k 1 M 17 [some (va_rf (some a0))] [] := by
  intro  M hw
  refine G_iconst (pc := 17) (v := 0) hC dJ4_isLatin1_17 (by decide) ?_
  exact g_J4_isLatin1_s23_18 hJ hC hQ hin  (0 : Int32) M hw
theorem m_J4_isLatin1_s23 {l : Launch} {g : gT} {F : Nat} {a0 : Nat} {M : hM} {Q : Int32 → hM → Prop} (hJ : JK l g) (hw : w_J4_isLatin1_s23 g F a0 M Q) : MG l g yJ4_isLatin1 (ws_ yJ4_isLatin1 cJ4_isLatin1 1 (some .boolean)) 1 12 [va_rf (some a0)] M (PI Q) := by
  refine MG_of hJ.2.1 (by decide) (cat_r cat_e) (Nat.le_of_ble_eq_true rfl) (fun k hl hg hin hQ hC => ?_)
  subst hl hg
  show GW k 1 M 0 [some (va_rf (some a0))] []
  refine G_gets (pc := 0) (v := .int (1 : Int32)) hC (hC.sK hJ).2.2.2.2.2.2.1 q231 (fun _ h => h) dJ4_isLatin1_0 ?_
  refine G_if_eq (pc := 3) (tgt := 17) hC dJ4_isLatin1_3 (by decide) (fun hc => ?_) (fun hc => ?_)
  · replace hw := hw.1 hc
    exact g_J4_isLatin1_s23_17 hJ hC hQ hin   M hw
  · replace hw := hw.2 hc
    refine G_aload_n (pc := 6) (i := 0) hC dJ4_isLatin1_6 rfl rfl ?_
    refine G_getI (pc := 7) (ci := 23) (C := RJ5) (T := TJ5) (N := 4) (f := 1) hC rfl in_J5 (Nat.le_of_ble_eq_true rfl) q241 (fun _ h => h) dJ4_isLatin1_7 hw (fun x1 hw => ?_)
    refine G_if_ne (pc := 10) (tgt := 17) hC dJ4_isLatin1_10 (by decide) (fun hc => ?_) (fun hc => ?_)
    · replace hw := hw.1 hc
      exact g_J4_isLatin1_s23_17 hJ hC hQ hin   M hw
    · replace hw := hw.2 hc
      refine G_iconst (pc := 13) (v := 1) hC dJ4_isLatin1_13 (by decide) ?_
      refine G_goto (pc := 14) (tgt := 18) hC dJ4_isLatin1_14 (by decide) ?_
      exact g_J4_isLatin1_s23_18 hJ hC hQ hin  (1 : Int32) M hw
def w_J16_checkFromIndexSize_15 (g : gT) (F : Nat) (p0 : Int32) (p1 : Int32) (p2 : Int32) (p3 : Option Nat) (Q : Int32 → hM → Prop) (M : hM) : Prop :=
  False
def w_J16_checkFromIndexSize (g : gT) (F : Nat) (p0 : Int32) (p1 : Int32) (p2 : Int32) (p3 : Option Nat) (M : hM) (Q : Int32 → hM → Prop) : Prop :=
  ((((p2 ||| p0) ||| p1) < 0 → w_J16_checkFromIndexSize_15 g F p0 p1 p2 p3 Q M) ∧ (¬ (((p2 ||| p0) ||| p1) < 0) → ((p1 ≤ (p2 - p0) → Q p0 M) ∧ (¬ (p1 ≤ (p2 - p0)) → w_J16_checkFromIndexSize_15 g F p0 p1 p2 p3 Q M))))
theorem g_J16_checkFromIndexSize_15 {k : kT} {F : Nat} {p0 : Int32} {p1 : Int32} {p2 : Int32} {p3 : Option Nat} {Q : Int32 → hM → Prop} (hJ : JK (kl k) (kg k)) (hC : CX k 4 cJ16_checkFromIndexSize RJ16 (some .int) 1 12) (hQ : isQ k (PI Q)) (hin : (kt k).name = "checkFromIndexSize") : ∀  (M : hM), w_J16_checkFromIndexSize_15 (kg k) F p0 p1 p2 p3 Q  M → GW k 4 M 15 [some (.int p0), some (.int p1), some (.int p2), some (va_rf p3)] [] := by
  intro  M hw
  refine G_aload_n (pc := 15) (i := 3) hC dJ16_checkFromIndexSize_15 rfl rfl ?_
  refine G_iload_n (pc := 16) (i := 0) hC dJ16_checkFromIndexSize_16 rfl rfl ?_
  refine G_iload_n (pc := 17) (i := 1) hC dJ16_checkFromIndexSize_17 rfl rfl ?_
  refine G_iload_n (pc := 18) (i := 2) hC dJ16_checkFromIndexSize_18 rfl rfl ?_
  exact hw.elim
theorem m_J16_checkFromIndexSize {l : Launch} {g : gT} {F : Nat} {p0 : Int32} {p1 : Int32} {p2 : Int32} {p3 : Option Nat} {M : hM} {Q : Int32 → hM → Prop} (hJ : JK l g) (hw : w_J16_checkFromIndexSize g F p0 p1 p2 p3 M Q) : MG l g yJ16_checkFromIndexSize (ws_ yJ16_checkFromIndexSize cJ16_checkFromIndexSize 4 (some .int)) 1 12 [.int p0, .int p1, .int p2, va_rf p3] M (PI Q) := by
  refine MG_of hJ.2.1 (by decide) (cat_i (cat_i (cat_i (cat_r cat_e)))) (Nat.le_of_ble_eq_true rfl) (fun k hl hg hin hQ hC => ?_)
  subst hl hg
  show GW k 4 M 0 [some (.int p0), some (.int p1), some (.int p2), some (va_rf p3)] []
  refine G_iload_n (pc := 0) (i := 2) hC dJ16_checkFromIndexSize_0 rfl rfl ?_
  refine G_iload_n (pc := 1) (i := 0) hC dJ16_checkFromIndexSize_1 rfl rfl ?_
  refine G_ior (pc := 2) hC dJ16_checkFromIndexSize_2 ?_
  refine G_iload_n (pc := 3) (i := 1) hC dJ16_checkFromIndexSize_3 rfl rfl ?_
  refine G_ior (pc := 4) hC dJ16_checkFromIndexSize_4 ?_
  refine G_if_lt (pc := 5) (tgt := 15) hC dJ16_checkFromIndexSize_5 (by decide) (fun hc => ?_) (fun hc => ?_)
  · replace hw := hw.1 hc
    exact g_J16_checkFromIndexSize_15 hJ hC hQ hin   M hw
  · replace hw := hw.2 hc
    refine G_iload_n (pc := 8) (i := 1) hC dJ16_checkFromIndexSize_8 rfl rfl ?_
    refine G_iload_n (pc := 9) (i := 2) hC dJ16_checkFromIndexSize_9 rfl rfl ?_
    refine G_iload_n (pc := 10) (i := 0) hC dJ16_checkFromIndexSize_10 rfl rfl ?_
    refine G_isub (pc := 11) hC dJ16_checkFromIndexSize_11 ?_
    refine G_icmp_le (pc := 12) (tgt := 23) hC dJ16_checkFromIndexSize_12 (by decide) (fun hc => ?_) (fun hc => ?_)
    · replace hw := hw.1 hc
      refine G_iload_n (pc := 23) (i := 0) hC dJ16_checkFromIndexSize_23 rfl rfl ?_
      exact G_iret (pc := 24) hC rfl hQ dJ16_checkFromIndexSize_24 hw
    · replace hw := hw.2 hc
      exact g_J16_checkFromIndexSize_15 hJ hC hQ hin   M hw
theorem hdK_J16_checkFromIndexSize : yJ16_checkFromIndexSize.cls = "jdk/internal/util/Preconditions" ∧ yJ16_checkFromIndexSize.cls ≠ "java/lang/invoke/MethodHandle" ∧ yJ16_checkFromIndexSize.cls ≠ "java/lang/invoke/VarHandle" ∧ (parseMethodDescriptor yJ16_checkFromIndexSize.desc).map (fun d => d.parameters.length) = some 4 := by decide +kernel
def w_J6_checkBoundsOffCount (g : gT) (F : Nat) (p0 : Int32) (p1 : Int32) (p2 : Int32) (M : hM) (Q : Int32 → hM → Prop) : Prop :=
  (∀ x1 : Option Nat, w_J16_checkFromIndexSize g F p0 p1 p2 x1 M (fun x3 M2 => Q x3 M2))
theorem m_J6_checkBoundsOffCount {l : Launch} {g : gT} {F : Nat} {p0 : Int32} {p1 : Int32} {p2 : Int32} {M : hM} {Q : Int32 → hM → Prop} (hJ : JK l g) (hw : w_J6_checkBoundsOffCount g F p0 p1 p2 M Q) : MG l g yJ6_checkBoundsOffCount (ws_ yJ6_checkBoundsOffCount cJ6_checkBoundsOffCount 3 (some .int)) 2 35 [.int p0, .int p1, .int p2] M (PI Q) := by
  refine MG_of hJ.2.1 (by decide) (cat_i (cat_i (cat_i cat_e))) (Nat.le_of_ble_eq_true rfl) (fun k hl hg hin hQ hC => ?_)
  subst hl hg
  show GW k 3 M 0 [some (.int p0), some (.int p1), some (.int p2)] []
  refine G_iload_n (pc := 0) (i := 0) hC dJ6_checkBoundsOffCount_0 rfl rfl ?_
  refine G_iload_n (pc := 1) (i := 1) hC dJ6_checkBoundsOffCount_1 rfl rfl ?_
  refine G_iload_n (pc := 2) (i := 2) hC dJ6_checkBoundsOffCount_2 rfl rfl ?_
  refine G_getsQ (pc := 3) hC (hC.sK hJ).2.2.2.2.2.2.2.2.2.2.1 q481 (fun _ h => h) dJ6_checkBoundsOffCount_3 (fun x1 => ?_)
  replace hw := hw x1
  refine G_callS (pc := 6) (n := 4) (As := [.int p0, .int p1, .int p2, va_rf x1]) (rest := []) hC (m_J16_checkFromIndexSize hJ hw) (lw_S q529 q530 q103 q531) hdK_J16_checkFromIndexSize.2 (by decide) rfl rfl (st_c cat_e (Nat.le_of_ble_eq_true rfl)) dJ6_checkBoundsOffCount_6 (kI fun x3 M2 hw => ?_)
  exact G_iret (pc := 9) hC rfl hQ dJ6_checkBoundsOffCount_9 hw
theorem hdK_J6_checkBoundsOffCount : yJ6_checkBoundsOffCount.cls = "java/lang/String" ∧ yJ6_checkBoundsOffCount.cls ≠ "java/lang/invoke/MethodHandle" ∧ yJ6_checkBoundsOffCount.cls ≠ "java/lang/invoke/VarHandle" ∧ (parseMethodDescriptor yJ6_checkBoundsOffCount.desc).map (fun d => d.parameters.length) = some 3 := by decide +kernel
def w_J7_checkBoundsOffCount (g : gT) (F : Nat) (p0 : Int32) (p1 : Int32) (p2 : Option Nat) (M : hM) (Q : hM → Prop) : Prop :=
  w_J7_length g F p2 M (fun x2 M1 => w_J6_checkBoundsOffCount g F p0 p1 x2 M1 (fun x4 M3 => Q M3))
theorem m_J7_checkBoundsOffCount {l : Launch} {g : gT} {F : Nat} {p0 : Int32} {p1 : Int32} {p2 : Option Nat} {M : hM} {Q : hM → Prop} (hJ : JK l g) (hw : w_J7_checkBoundsOffCount g F p0 p1 p2 M Q) : MG l g yJ7_checkBoundsOffCount (ws_ yJ7_checkBoundsOffCount cJ7_checkBoundsOffCount 3 none) 3 57 [.int p0, .int p1, va_rf p2] M (PU Q) := by
  refine MG_of hJ.2.1 (by decide) (cat_i (cat_i (cat_r cat_e))) (Nat.le_of_ble_eq_true rfl) (fun k hl hg hin hQ hC => ?_)
  subst hl hg
  show GW k 3 M 0 [some (.int p0), some (.int p1), some (va_rf p2)] []
  refine G_iload_n (pc := 0) (i := 0) hC dJ7_checkBoundsOffCount_0 rfl rfl ?_
  refine G_iload_n (pc := 1) (i := 1) hC dJ7_checkBoundsOffCount_1 rfl rfl ?_
  refine G_aload_n (pc := 2) (i := 2) hC dJ7_checkBoundsOffCount_2 rfl rfl ?_
  refine G_callS (pc := 3) (n := 1) (As := [va_rf p2]) (rest := [.int p1, .int p0]) hC (m_J7_length hJ hw) (lw_S q475 q476 q93 q477) hdK_J7_length.2 (by decide) rfl rfl (st_c (cat_i (cat_i cat_e)) (Nat.le_of_ble_eq_true rfl)) dJ7_checkBoundsOffCount_3 (kI fun x2 M1 hw => ?_)
  refine G_callS (pc := 6) (n := 3) (As := [.int p0, .int p1, .int x2]) (rest := []) hC (m_J6_checkBoundsOffCount hJ hw) (lw_S q526 q527 q92 q528) hdK_J6_checkBoundsOffCount.2 (by decide) rfl rfl (st_c cat_e (Nat.le_of_ble_eq_true rfl)) dJ7_checkBoundsOffCount_6 (kI fun x4 M3 hw => ?_)
  refine G_pop (pc := 9) hC dJ7_checkBoundsOffCount_9 rfl ?_
  exact G_ret (pc := 10) hC hQ dJ7_checkBoundsOffCount_10 hw
theorem hdK_J7_checkBoundsOffCount : yJ7_checkBoundsOffCount.cls = "java/lang/StringUTF16" ∧ yJ7_checkBoundsOffCount.cls ≠ "java/lang/invoke/MethodHandle" ∧ yJ7_checkBoundsOffCount.cls ≠ "java/lang/invoke/VarHandle" ∧ (parseMethodDescriptor yJ7_checkBoundsOffCount.desc).map (fun d => d.parameters.length) = some 3 := by decide +kernel
def w_J7_inflate_10 (g : gT) (F : Nat) (p0 : Option Nat) (p2 : Option Nat) (p4 : Int32) (Q : hM → Prop) : Nat → Int32 → Int32 → Int32 → hM → Prop
  | 0, _, _, _, _ => False
  | n + 1, v1, v3, v5, M => ((p4 ≤ v5 → Q M) ∧ (¬ (p4 ≤ v5) → aI M p0 4 v1 fun x1 => w_J7_putChar g F p2 v3 (x1 &&& (255 : Int32)) M (fun M2 => w_J7_inflate_10 g F p0 p2 p4 Q n (v1 + (1 : Int32)) (v3 + (1 : Int32)) (v5 + (1 : Int32)) M2)))
def w_J7_inflate (g : gT) (F : Nat) (p0 : Option Nat) (p1 : Int32) (p2 : Option Nat) (p3 : Int32) (p4 : Int32) (M : hM) (Q : hM → Prop) : Prop :=
  w_J7_checkBoundsOffCount g F p3 p4 p2 M (fun M1 => w_J7_inflate_10 g F p0 p2 p4 Q F p1 p3 (0 : Int32) M1)
theorem g_J7_inflate_10 {k : kT} {F : Nat} {p0 : Option Nat} {p2 : Option Nat} {p4 : Int32} {Q : hM → Prop} (hJ : JK (kl k) (kg k)) (hC : CX k 6 cJ7_inflate RJ7 none 4 79) (hQ : isQ k (PU Q)) (hin : (kt k).name = "inflate") : ∀ (n : Nat) (v1 : Int32) (v3 : Int32) (v5 : Int32) (M : hM), w_J7_inflate_10 (kg k) F p0 p2 p4 Q n v1 v3 v5 M → GW k 6 M 10 [some (va_rf p0), some (.int v1), some (va_rf p2), some (.int v3), some (.int p4), some (.int v5)] [] := by
  intro n
  induction n with
  | zero =>
    intro v1 v3 v5 M hw
    exact hw.elim
  | succ n ih =>
    intro v1 v3 v5 M hw
    refine G_iload (pc := 10) (i := 5) hC dJ7_inflate_10 rfl ?_
    refine G_iload (pc := 12) (i := 4) hC dJ7_inflate_12 rfl ?_
    refine G_icmp_ge (pc := 14) (tgt := 41) hC dJ7_inflate_14 (by decide) (fun hc => ?_) (fun hc => ?_)
    · replace hw := hw.1 hc
      exact G_ret (pc := 41) hC hQ dJ7_inflate_41 hw
    · replace hw := hw.2 hc
      refine G_aload_n (pc := 17) (i := 2) hC dJ7_inflate_17 rfl rfl ?_
      refine G_iload_n (pc := 18) (i := 3) hC dJ7_inflate_18 rfl rfl ?_
      refine G_iinc (pc := 19) (i := 3) (v := (v3 + (1 : Int32))) (lw := [some (va_rf p0), some (.int v1), some (va_rf p2), some (.int (v3 + (1 : Int32))), some (.int p4), some (.int v5)]) hC dJ7_inflate_19 rfl (Nat.le_of_ble_eq_true rfl) rfl rfl ?_
      refine G_aload_n (pc := 22) (i := 0) hC dJ7_inflate_22 rfl rfl ?_
      refine G_iload_n (pc := 23) (i := 1) hC dJ7_inflate_23 rfl rfl ?_
      refine G_iinc (pc := 24) (i := 1) (v := (v1 + (1 : Int32))) (lw := [some (va_rf p0), some (.int (v1 + (1 : Int32))), some (va_rf p2), some (.int (v3 + (1 : Int32))), some (.int p4), some (.int v5)]) hC dJ7_inflate_24 rfl (Nat.le_of_ble_eq_true rfl) rfl rfl ?_
      refine G_bald (pc := 27) hC dJ7_inflate_27 hw (fun x1 hw => ?_)
      refine G_sipush (pc := 28) (v := 255) hC dJ7_inflate_28 (by decide) ?_
      refine G_iand (pc := 31) hC dJ7_inflate_31 ?_
      refine G_callS (pc := 32) (n := 3) (As := [va_rf p2, .int v3, .int (x1 &&& (255 : Int32))]) (rest := []) hC (m_J7_putChar hJ hw) (lw_S q486 q487 q93 q488) hdK_J7_putChar.2 (by decide) rfl rfl (st_c cat_e (Nat.le_of_ble_eq_true rfl)) dJ7_inflate_32 (kU fun M2 hw => ?_)
      refine G_iinc (pc := 35) (i := 5) (v := (v5 + (1 : Int32))) (lw := [some (va_rf p0), some (.int (v1 + (1 : Int32))), some (va_rf p2), some (.int (v3 + (1 : Int32))), some (.int p4), some (.int (v5 + (1 : Int32)))]) hC dJ7_inflate_35 rfl (Nat.le_of_ble_eq_true rfl) rfl rfl ?_
      refine G_goto (pc := 38) (tgt := 10) hC dJ7_inflate_38 (by decide) ?_
      exact ih (v1 + (1 : Int32)) (v3 + (1 : Int32)) (v5 + (1 : Int32)) M2 hw
theorem m_J7_inflate {l : Launch} {g : gT} {F : Nat} {p0 : Option Nat} {p1 : Int32} {p2 : Option Nat} {p3 : Int32} {p4 : Int32} {M : hM} {Q : hM → Prop} (hJ : JK l g) (hw : w_J7_inflate g F p0 p1 p2 p3 p4 M Q) : MG l g yJ7_inflate (ws_ yJ7_inflate cJ7_inflate 6 none) 4 79 [va_rf p0, .int p1, va_rf p2, .int p3, .int p4] M (PU Q) := by
  refine MG_of hJ.2.1 (by decide) (cat_r (cat_i (cat_r (cat_i (cat_i cat_e))))) (Nat.le_of_ble_eq_true rfl) (fun k hl hg hin hQ hC => ?_)
  subst hl hg
  show GW k 6 M 0 [some (va_rf p0), some (.int p1), some (va_rf p2), some (.int p3), some (.int p4), none] []
  refine G_iload_n (pc := 0) (i := 3) hC dJ7_inflate_0 rfl rfl ?_
  refine G_iload (pc := 1) (i := 4) hC dJ7_inflate_1 rfl ?_
  refine G_aload_n (pc := 3) (i := 2) hC dJ7_inflate_3 rfl rfl ?_
  refine G_callS (pc := 4) (n := 3) (As := [.int p3, .int p4, va_rf p2]) (rest := []) hC (m_J7_checkBoundsOffCount hJ hw) (lw_S q523 q524 q93 q525) hdK_J7_checkBoundsOffCount.2 (by decide) rfl rfl (st_c cat_e (Nat.le_of_ble_eq_true rfl)) dJ7_inflate_4 (kU fun M1 hw => ?_)
  refine G_iconst (pc := 7) (v := 0) hC dJ7_inflate_7 (by decide) ?_
  refine G_istore (pc := 8) (i := 5) (lw := [some (va_rf p0), some (.int p1), some (va_rf p2), some (.int p3), some (.int p4), some (.int (0 : Int32))]) hC dJ7_inflate_8 (Nat.le_of_ble_eq_true rfl) rfl ?_
  exact g_J7_inflate_10 hJ hC hQ hin _ p1 p3 (0 : Int32) M1 hw
theorem hdK_J7_inflate : yJ7_inflate.cls = "java/lang/StringUTF16" ∧ yJ7_inflate.cls ≠ "java/lang/invoke/MethodHandle" ∧ yJ7_inflate.cls ≠ "java/lang/invoke/VarHandle" ∧ (parseMethodDescriptor yJ7_inflate.desc).map (fun d => d.parameters.length) = some 5 := by decide +kernel
def w_J17_inflate (g : gT) (F : Nat) (p0 : Option Nat) (p1 : Int32) (p2 : Option Nat) (p3 : Int32) (p4 : Int32) (M : hM) (Q : hM → Prop) : Prop :=
  w_J7_inflate g F p0 p1 p2 p3 p4 M (fun M1 => Q M1)
theorem m_J17_inflate {l : Launch} {g : gT} {F : Nat} {p0 : Option Nat} {p1 : Int32} {p2 : Option Nat} {p3 : Int32} {p4 : Int32} {M : hM} {Q : hM → Prop} (hJ : JK l g) (hw : w_J17_inflate g F p0 p1 p2 p3 p4 M Q) : MG l g yJ17_inflate (ws_ yJ17_inflate cJ17_inflate 5 none) 5 104 [va_rf p0, .int p1, va_rf p2, .int p3, .int p4] M (PU Q) := by
  refine MG_of hJ.2.1 (by decide) (cat_r (cat_i (cat_r (cat_i (cat_i cat_e))))) (Nat.le_of_ble_eq_true rfl) (fun k hl hg hin hQ hC => ?_)
  subst hl hg
  show GW k 5 M 0 [some (va_rf p0), some (.int p1), some (va_rf p2), some (.int p3), some (.int p4)] []
  refine G_aload_n (pc := 0) (i := 0) hC dJ17_inflate_0 rfl rfl ?_
  refine G_iload_n (pc := 1) (i := 1) hC dJ17_inflate_1 rfl rfl ?_
  refine G_aload_n (pc := 2) (i := 2) hC dJ17_inflate_2 rfl rfl ?_
  refine G_iload_n (pc := 3) (i := 3) hC dJ17_inflate_3 rfl rfl ?_
  refine G_iload (pc := 4) (i := 4) hC dJ17_inflate_4 rfl ?_
  refine G_callS (pc := 6) (n := 5) (As := [va_rf p0, .int p1, va_rf p2, .int p3, .int p4]) (rest := []) hC (m_J7_inflate hJ hw) (lw_S q520 q521 q93 q522) hdK_J7_inflate.2 (by decide) rfl rfl (st_c cat_e (Nat.le_of_ble_eq_true rfl)) dJ17_inflate_6 (kU fun M1 hw => ?_)
  exact G_ret (pc := 9) hC hQ dJ17_inflate_9 hw
theorem hdK_J17_inflate : yJ17_inflate.cls = "java/lang/StringLatin1" ∧ yJ17_inflate.cls ≠ "java/lang/invoke/MethodHandle" ∧ yJ17_inflate.cls ≠ "java/lang/invoke/VarHandle" ∧ (parseMethodDescriptor yJ17_inflate.desc).map (fun d => d.parameters.length) = some 5 := by decide +kernel
theorem hdK_J4_isLatin1_s23 : yJ4_isLatin1.cls = "java/lang/AbstractStringBuilder" ∧ yJ4_isLatin1.cls ≠ "java/lang/invoke/MethodHandle" ∧ yJ4_isLatin1.cls ≠ "java/lang/invoke/VarHandle" ∧ (parseMethodDescriptor yJ4_isLatin1.desc).map (fun d => d.parameters.length) = some 0 := by decide +kernel
def w_J4_inflate_s23 (g : gT) (F : Nat) (a0 : Nat) (M : hM) (Q : hM → Prop) : Prop :=
  (isC M a0 23 ∧ w_J4_isLatin1_s23 g F a0  M (fun x2 M1 => ((¬ x2 = 0 → gF M1 (some a0) 23 0 fun x3 => aLenK g M1 x3 fun x4 => w_J7_newBytesFor g F x4 M1 (fun x6 M5 => gF M5 (some a0) 23 0 fun x7 => gI M5 (some a0) 23 3 fun x8 => w_J17_inflate g F x7 (0 : Int32) x6 (0 : Int32) x8 M5 (fun M9 => pV M9 (some a0) 23 0 (va_rf x6) fun M10 => pV M10 (some a0) 23 1 (.int (1 : Int32)) fun M11 => Q M11))) ∧ (x2 = 0 → Q M1))))
theorem m_J4_inflate_s23 {l : Launch} {g : gT} {F : Nat} {a0 : Nat} {M : hM} {Q : hM → Prop} (hJ : JK l g) (hw : w_J4_inflate_s23 g F a0 M Q) : MG l g yJ4_inflate (ws_ yJ4_inflate cJ4_inflate 2 none) 6 128 [va_rf (some a0)] M (PU Q) := by
  refine MG_of hJ.2.1 (by decide) (cat_r cat_e) (Nat.le_of_ble_eq_true rfl) (fun k hl hg hin hQ hC => ?_)
  subst hl hg
  show GW k 2 M 0 [some (va_rf (some a0)), none] []
  refine G_aload_n (pc := 0) (i := 0) hC dJ4_inflate_0 rfl rfl ?_
  obtain ⟨hb, hw⟩ := hw
  refine G_callU (pc := 1) (n := 0) (x := ⟨"java/lang/AbstractStringBuilder", "isLatin1", "()Z"⟩) (owner := "java/lang/AbstractStringBuilder") (C := "java/lang/StringBuilder") (b := a0) (As := []) (rest := []) hC (m_J4_isLatin1_s23 hJ hw) (lw_U q464 q466 q467 q465 q90 q468) rfl (rcv (C := RJ5) (T := TJ5) (N := 4) hC hb rfl) hdK_J4_isLatin1_s23.2 (by decide) rfl rfl (st_c cat_e (Nat.le_of_ble_eq_true rfl)) dJ4_inflate_1 (kI fun x2 M1 hw => ?_)
  refine G_if_ne (pc := 4) (tgt := 8) hC dJ4_inflate_4 (by decide) (fun hc => ?_) (fun hc => ?_)
  · replace hw := hw.1 hc
    refine G_aload_n (pc := 8) (i := 0) hC dJ4_inflate_8 rfl rfl ?_
    refine G_getF (pc := 9) (ci := 23) (C := RJ5) (T := TJ5) (N := 4) (f := 0) hC rfl in_J5 (Nat.le_of_ble_eq_true rfl) q240 (fun _ h => h) dJ4_inflate_9 hw (fun x3 hw => ?_)
    refine G_alenK (pc := 12) hJ hC dJ4_inflate_12 hw (fun x4 hw => ?_)
    refine G_callS (pc := 13) (n := 1) (As := [.int x4]) (rest := []) hC (m_J7_newBytesFor hJ hw) (lw_S q233 q234 q93 q235) hdK_J7_newBytesFor.2 (by decide) rfl rfl (st_c cat_e (Nat.le_of_ble_eq_true rfl)) dJ4_inflate_13 (kRf fun x6 M5 hw => ?_)
    refine G_astore_n (pc := 16) (i := 1) (lw := [some (va_rf (some a0)), some (va_rf x6)]) hC dJ4_inflate_16 rfl (Nat.le_of_ble_eq_true rfl) rfl ?_
    refine G_aload_n (pc := 17) (i := 0) hC dJ4_inflate_17 rfl rfl ?_
    refine G_getF (pc := 18) (ci := 23) (C := RJ5) (T := TJ5) (N := 4) (f := 0) hC rfl in_J5 (Nat.le_of_ble_eq_true rfl) q240 (fun _ h => h) dJ4_inflate_18 hw (fun x7 hw => ?_)
    refine G_iconst (pc := 21) (v := 0) hC dJ4_inflate_21 (by decide) ?_
    refine G_aload_n (pc := 22) (i := 1) hC dJ4_inflate_22 rfl rfl ?_
    refine G_iconst (pc := 23) (v := 0) hC dJ4_inflate_23 (by decide) ?_
    refine G_aload_n (pc := 24) (i := 0) hC dJ4_inflate_24 rfl rfl ?_
    refine G_getI (pc := 25) (ci := 23) (C := RJ5) (T := TJ5) (N := 4) (f := 3) hC rfl in_J5 (Nat.le_of_ble_eq_true rfl) q244 (fun _ h => h) dJ4_inflate_25 hw (fun x8 hw => ?_)
    refine G_callS (pc := 28) (n := 5) (As := [va_rf x7, .int (0 : Int32), va_rf x6, .int (0 : Int32), .int x8]) (rest := []) hC (m_J17_inflate hJ hw) (lw_S q517 q518 q104 q519) hdK_J17_inflate.2 (by decide) rfl rfl (st_c cat_e (Nat.le_of_ble_eq_true rfl)) dJ4_inflate_28 (kU fun M9 hw => ?_)
    refine G_aload_n (pc := 31) (i := 0) hC dJ4_inflate_31 rfl rfl ?_
    refine G_aload_n (pc := 32) (i := 1) hC dJ4_inflate_32 rfl rfl ?_
    refine G_put (pc := 33) (ci := 23) (C := RJ5) (T := TJ5) (N := 4) (f := 0) tyJ5 hC rfl in_J5 tyJ5_ok nmJ5 (Nat.le_of_ble_eq_true rfl) q240 (fun _ h => h) rfl (nR_a _ _) (fR_a _ _) dJ4_inflate_33 hw (fun M10 hw => ?_)
    refine G_aload_n (pc := 36) (i := 0) hC dJ4_inflate_36 rfl rfl ?_
    refine G_iconst (pc := 37) (v := 1) hC dJ4_inflate_37 (by decide) ?_
    refine G_put (pc := 38) (ci := 23) (C := RJ5) (T := TJ5) (N := 4) (f := 1) tyJ5 hC rfl in_J5 tyJ5_ok nmJ5 (Nat.le_of_ble_eq_true rfl) q241 (fun _ h => h) rfl rfl rfl dJ4_inflate_38 hw (fun M11 hw => ?_)
    exact G_ret (pc := 41) hC hQ dJ4_inflate_41 hw
  · replace hw := hw.2 hc
    exact G_ret (pc := 7) hC hQ dJ4_inflate_7 hw
def w_J4_newCapacity_s23 (g : gT) (F : Nat) (a0 : Nat) (p1 : Int32) (M : hM) (Q : Int32 → hM → Prop) : Prop :=
  gF M (some a0) 23 0 fun x1 => aLenK g M x1 fun x2 => gI M (some a0) 23 1 fun x3 => gI M (some a0) 23 1 fun x4 => w_J8_newLength g F x2 ((p1 <<< (x3 &&& 31)) - x2) (x2 + ((2 : Int32) <<< (x4 &&& 31))) M (fun x6 M5 => ((¬ x6 = (2147483647 : Int32) → gI M5 (some a0) 23 1 fun x7 => Q (x6 >>> (x7 &&& 31)) M5) ∧ (x6 = (2147483647 : Int32) → False)))
theorem m_J4_newCapacity_s23 {l : Launch} {g : gT} {F : Nat} {a0 : Nat} {p1 : Int32} {M : hM} {Q : Int32 → hM → Prop} (hJ : JK l g) (hw : w_J4_newCapacity_s23 g F a0 p1 M Q) : MG l g yJ4_newCapacity (ws_ yJ4_newCapacity cJ4_newCapacity 6 (some .int)) 3 57 [va_rf (some a0), .int p1] M (PI Q) := by
  refine MG_of hJ.2.1 (by decide) (cat_r (cat_i cat_e)) (Nat.le_of_ble_eq_true rfl) (fun k hl hg hin hQ hC => ?_)
  subst hl hg
  show GW k 6 M 0 [some (va_rf (some a0)), some (.int p1), none, none, none, none] []
  refine G_aload_n (pc := 0) (i := 0) hC dJ4_newCapacity_0 rfl rfl ?_
  refine G_getF (pc := 1) (ci := 23) (C := RJ5) (T := TJ5) (N := 4) (f := 0) hC rfl in_J5 (Nat.le_of_ble_eq_true rfl) q240 (fun _ h => h) dJ4_newCapacity_1 hw (fun x1 hw => ?_)
  refine G_alenK (pc := 4) hJ hC dJ4_newCapacity_4 hw (fun x2 hw => ?_)
  refine G_istore_n (pc := 5) (i := 2) (lw := [some (va_rf (some a0)), some (.int p1), some (.int x2), none, none, none]) hC dJ4_newCapacity_5 rfl (Nat.le_of_ble_eq_true rfl) rfl ?_
  refine G_iload_n (pc := 6) (i := 1) hC dJ4_newCapacity_6 rfl rfl ?_
  refine G_aload_n (pc := 7) (i := 0) hC dJ4_newCapacity_7 rfl rfl ?_
  refine G_getI (pc := 8) (ci := 23) (C := RJ5) (T := TJ5) (N := 4) (f := 1) hC rfl in_J5 (Nat.le_of_ble_eq_true rfl) q241 (fun _ h => h) dJ4_newCapacity_8 hw (fun x3 hw => ?_)
  refine G_ishl (pc := 11) hC dJ4_newCapacity_11 ?_
  refine G_istore_n (pc := 12) (i := 3) (lw := [some (va_rf (some a0)), some (.int p1), some (.int x2), some (.int (p1 <<< (x3 &&& 31))), none, none]) hC dJ4_newCapacity_12 rfl (Nat.le_of_ble_eq_true rfl) rfl ?_
  refine G_iload_n (pc := 13) (i := 3) hC dJ4_newCapacity_13 rfl rfl ?_
  refine G_iload_n (pc := 14) (i := 2) hC dJ4_newCapacity_14 rfl rfl ?_
  refine G_isub (pc := 15) hC dJ4_newCapacity_15 ?_
  refine G_istore (pc := 16) (i := 4) (lw := [some (va_rf (some a0)), some (.int p1), some (.int x2), some (.int (p1 <<< (x3 &&& 31))), some (.int ((p1 <<< (x3 &&& 31)) - x2)), none]) hC dJ4_newCapacity_16 (Nat.le_of_ble_eq_true rfl) rfl ?_
  refine G_iload_n (pc := 18) (i := 2) hC dJ4_newCapacity_18 rfl rfl ?_
  refine G_iload (pc := 19) (i := 4) hC dJ4_newCapacity_19 rfl ?_
  refine G_iload_n (pc := 21) (i := 2) hC dJ4_newCapacity_21 rfl rfl ?_
  refine G_iconst (pc := 22) (v := 2) hC dJ4_newCapacity_22 (by decide) ?_
  refine G_aload_n (pc := 23) (i := 0) hC dJ4_newCapacity_23 rfl rfl ?_
  refine G_getI (pc := 24) (ci := 23) (C := RJ5) (T := TJ5) (N := 4) (f := 1) hC rfl in_J5 (Nat.le_of_ble_eq_true rfl) q241 (fun _ h => h) dJ4_newCapacity_24 hw (fun x4 hw => ?_)
  refine G_ishl (pc := 27) hC dJ4_newCapacity_27 ?_
  refine G_iadd (pc := 28) hC dJ4_newCapacity_28 ?_
  refine G_callS (pc := 29) (n := 3) (As := [.int x2, .int ((p1 <<< (x3 &&& 31)) - x2), .int (x2 + ((2 : Int32) <<< (x4 &&& 31)))]) (rest := []) hC (m_J8_newLength hJ hw) (lw_S q452 q278 q94 q279) hdK_J8_newLength.2 (by decide) rfl rfl (st_c cat_e (Nat.le_of_ble_eq_true rfl)) dJ4_newCapacity_29 (kI fun x6 M5 hw => ?_)
  refine G_istore (pc := 32) (i := 5) (lw := [some (va_rf (some a0)), some (.int p1), some (.int x2), some (.int (p1 <<< (x3 &&& 31))), some (.int ((p1 <<< (x3 &&& 31)) - x2)), some (.int x6)]) hC dJ4_newCapacity_32 (Nat.le_of_ble_eq_true rfl) rfl ?_
  refine G_iload (pc := 34) (i := 5) hC dJ4_newCapacity_34 rfl ?_
  refine G_ldcI (pc := 36) (v := 2147483647) hC q453 dJ4_newCapacity_36 ?_
  refine G_icmp_ne (pc := 38) (tgt := 51) hC dJ4_newCapacity_38 (by decide) (fun hc => ?_) (fun hc => ?_)
  · replace hw := hw.1 hc
    refine G_iload (pc := 51) (i := 5) hC dJ4_newCapacity_51 rfl ?_
    refine G_aload_n (pc := 53) (i := 0) hC dJ4_newCapacity_53 rfl rfl ?_
    refine G_getI (pc := 54) (ci := 23) (C := RJ5) (T := TJ5) (N := 4) (f := 1) hC rfl in_J5 (Nat.le_of_ble_eq_true rfl) q241 (fun _ h => h) dJ4_newCapacity_54 hw (fun x7 hw => ?_)
    refine G_ishr (pc := 57) hC dJ4_newCapacity_57 ?_
    exact G_iret (pc := 58) hC rfl hQ dJ4_newCapacity_58 hw
  · replace hw := hw.2 hc
    exact hw.elim
def w_J10_copyOf_3 (g : gT) (F : Nat) (p0 : Option Nat) (p1 : Int32) (M : hM) (Q : Option Nat → hM → Prop) : Prop :=
  aLenK g M p0 fun x1 => ((¬ p1 = x1 → nA M 4 p1 (.inl (fun _ => 0)) fun q2 M3 => aLenK g M3 p0 fun x4 => cB M3 p0 (0 : Int32) (some q2) (0 : Int32) (if p1 < x4 then p1 else x4) fun M5 => Q (some q2) M5) ∧ (p1 = x1 → clB M p0 fun q7 M6 => ckBy M6 (some q7) (Q (some q7) M6)))
theorem m_J10_copyOf_3 {l : Launch} {g : gT} {F : Nat} {p0 : Option Nat} {p1 : Int32} {M : hM} {Q : Option Nat → hM → Prop} (hJ : JK l g) (hw : w_J10_copyOf_3 g F p0 p1 M Q) : MG l g yJ10_copyOf_3 (ws_ yJ10_copyOf_3 cJ10_copyOf_3 3 (some (.array .byte))) 1 40 [va_rf p0, .int p1] M (PR Q) := by
  refine MG_of hJ.2.1 (by decide) (cat_r (cat_i cat_e)) (Nat.le_of_ble_eq_true rfl) (fun k hl hg hin hQ hC => ?_)
  subst hl hg
  show GW k 3 M 0 [some (va_rf p0), some (.int p1), none] []
  refine G_iload_n (pc := 0) (i := 1) hC dJ10_copyOf_3_0 rfl rfl ?_
  refine G_aload_n (pc := 1) (i := 0) hC dJ10_copyOf_3_1 rfl rfl ?_
  refine G_alenK (pc := 2) hJ hC dJ10_copyOf_3_2 hw (fun x1 hw => ?_)
  refine G_icmp_ne (pc := 3) (tgt := 14) hC dJ10_copyOf_3_3 (by decide) (fun hc => ?_) (fun hc => ?_)
  · replace hw := hw.1 hc
    refine G_iload_n (pc := 14) (i := 1) hC dJ10_copyOf_3_14 rfl rfl ?_
    refine G_newB (pc := 15) hC q254 dJ10_copyOf_3_15 hw (fun q2 M3 hw => ?_)
    refine G_astore_n (pc := 17) (i := 2) (lw := [some (va_rf p0), some (.int p1), some (va_rf (some q2))]) hC dJ10_copyOf_3_17 rfl (Nat.le_of_ble_eq_true rfl) rfl ?_
    refine G_aload_n (pc := 18) (i := 0) hC dJ10_copyOf_3_18 rfl rfl ?_
    refine G_iconst (pc := 19) (v := 0) hC dJ10_copyOf_3_19 (by decide) ?_
    refine G_aload_n (pc := 20) (i := 2) hC dJ10_copyOf_3_20 rfl rfl ?_
    refine G_iconst (pc := 21) (v := 0) hC dJ10_copyOf_3_21 (by decide) ?_
    refine G_aload_n (pc := 22) (i := 0) hC dJ10_copyOf_3_22 rfl rfl ?_
    refine G_alenK (pc := 23) hJ hC dJ10_copyOf_3_23 hw (fun x4 hw => ?_)
    refine G_iload_n (pc := 24) (i := 1) hC dJ10_copyOf_3_24 rfl rfl ?_
    refine G_min (pc := 25) hC q345 q346 q95 q347 rfl rfl (st_c (cat_i (cat_r (cat_i (cat_r cat_e)))) (Nat.le_of_ble_eq_true rfl)) dJ10_copyOf_3_25 ?_
    refine G_copyB (pc := 28) hC q348 q350 q349 q97 (st_c cat_e (Nat.le_of_ble_eq_true rfl)) rfl rfl dJ10_copyOf_3_28 hw (fun M5 hw => ?_)
    refine G_aload_n (pc := 31) (i := 2) hC dJ10_copyOf_3_31 rfl rfl ?_
    exact G_aret (pc := 32) hC (Or.inr ⟨_, rfl⟩) hQ dJ10_copyOf_3_32 hw
  · replace hw := hw.2 hc
    refine G_aload_n (pc := 6) (i := 0) hC dJ10_copyOf_3_6 rfl rfl ?_
    refine G_cloneB (pc := 7) hC q457 q458 q459 q460 q461 (nw_in q462 rfl) (st_c cat_e (Nat.le_of_ble_eq_true rfl)) rfl rfl dJ10_copyOf_3_7 hw (fun q7 M6 hw => ?_)
    obtain ⟨hb, hw⟩ := hw
    refine G_castBy (pc := 10) hC q463 hb dJ10_copyOf_3_10 ?_
    exact G_aret (pc := 13) hC (Or.inr ⟨_, rfl⟩) hQ dJ10_copyOf_3_13 hw
theorem hdK_J10_copyOf_3 : yJ10_copyOf_3.cls = "java/util/Arrays" ∧ yJ10_copyOf_3.cls ≠ "java/lang/invoke/MethodHandle" ∧ yJ10_copyOf_3.cls ≠ "java/lang/invoke/VarHandle" ∧ (parseMethodDescriptor yJ10_copyOf_3.desc).map (fun d => d.parameters.length) = some 2 := by decide +kernel
theorem hdK_J4_newCapacity_s23 : yJ4_newCapacity.cls = "java/lang/AbstractStringBuilder" ∧ yJ4_newCapacity.cls ≠ "java/lang/invoke/MethodHandle" ∧ yJ4_newCapacity.cls ≠ "java/lang/invoke/VarHandle" ∧ (parseMethodDescriptor yJ4_newCapacity.desc).map (fun d => d.parameters.length) = some 1 := by decide +kernel
def w_J4_ensureCapacityInternal_s23_38 (g : gT) (F : Nat) (a0 : Nat) (p1 : Int32) (Q : hM → Prop) (M : hM) : Prop :=
  Q M
def w_J4_ensureCapacityInternal_s23 (g : gT) (F : Nat) (a0 : Nat) (p1 : Int32) (M : hM) (Q : hM → Prop) : Prop :=
  gF M (some a0) 23 0 fun x1 => aLenK g M x1 fun x2 => gI M (some a0) 23 1 fun x3 => (((p1 - (x2 >>> (x3 &&& 31))) ≤ 0 → w_J4_ensureCapacityInternal_s23_38 g F a0 p1 Q M) ∧ (¬ ((p1 - (x2 >>> (x3 &&& 31))) ≤ 0) → gF M (some a0) 23 0 fun x4 => (isC M a0 23 ∧ w_J4_newCapacity_s23 g F a0 p1 M (fun x6 M5 => gI M5 (some a0) 23 1 fun x7 => w_J10_copyOf_3 g F x4 (x6 <<< (x7 &&& 31)) M5 (fun x9 M8 => pV M8 (some a0) 23 0 (va_rf x9) fun M10 => w_J4_ensureCapacityInternal_s23_38 g F a0 p1 Q M10)))))
theorem g_J4_ensureCapacityInternal_s23_38 {k : kT} {F : Nat} {a0 : Nat} {p1 : Int32} {Q : hM → Prop} (hJ : JK (kl k) (kg k)) (hC : CX k 3 cJ4_ensureCapacityInternal RJ4 none 4 82) (hQ : isQ k (PU Q)) (hin : (kt k).name = "ensureCapacityInternal") : ∀  (M : hM), w_J4_ensureCapacityInternal_s23_38 (kg k) F a0 p1 Q  M → GW k 3 M 38 [some (va_rf (some a0)), some (.int p1), none] [] := by
  intro  M hw
  exact G_ret (pc := 38) hC hQ dJ4_ensureCapacityInternal_38 hw
theorem m_J4_ensureCapacityInternal_s23 {l : Launch} {g : gT} {F : Nat} {a0 : Nat} {p1 : Int32} {M : hM} {Q : hM → Prop} (hJ : JK l g) (hw : w_J4_ensureCapacityInternal_s23 g F a0 p1 M Q) : MG l g yJ4_ensureCapacityInternal (ws_ yJ4_ensureCapacityInternal cJ4_ensureCapacityInternal 3 none) 4 82 [va_rf (some a0), .int p1] M (PU Q) := by
  refine MG_of hJ.2.1 (by decide) (cat_r (cat_i cat_e)) (Nat.le_of_ble_eq_true rfl) (fun k hl hg hin hQ hC => ?_)
  subst hl hg
  show GW k 3 M 0 [some (va_rf (some a0)), some (.int p1), none] []
  refine G_aload_n (pc := 0) (i := 0) hC dJ4_ensureCapacityInternal_0 rfl rfl ?_
  refine G_getF (pc := 1) (ci := 23) (C := RJ5) (T := TJ5) (N := 4) (f := 0) hC rfl in_J5 (Nat.le_of_ble_eq_true rfl) q240 (fun _ h => h) dJ4_ensureCapacityInternal_1 hw (fun x1 hw => ?_)
  refine G_alenK (pc := 4) hJ hC dJ4_ensureCapacityInternal_4 hw (fun x2 hw => ?_)
  refine G_aload_n (pc := 5) (i := 0) hC dJ4_ensureCapacityInternal_5 rfl rfl ?_
  refine G_getI (pc := 6) (ci := 23) (C := RJ5) (T := TJ5) (N := 4) (f := 1) hC rfl in_J5 (Nat.le_of_ble_eq_true rfl) q241 (fun _ h => h) dJ4_ensureCapacityInternal_6 hw (fun x3 hw => ?_)
  refine G_ishr (pc := 9) hC dJ4_ensureCapacityInternal_9 ?_
  refine G_istore_n (pc := 10) (i := 2) (lw := [some (va_rf (some a0)), some (.int p1), some (.int (x2 >>> (x3 &&& 31)))]) hC dJ4_ensureCapacityInternal_10 rfl (Nat.le_of_ble_eq_true rfl) rfl ?_
  refine G_iload_n (pc := 11) (i := 1) hC dJ4_ensureCapacityInternal_11 rfl rfl ?_
  refine G_iload_n (pc := 12) (i := 2) hC dJ4_ensureCapacityInternal_12 rfl rfl ?_
  refine G_isub (pc := 13) hC dJ4_ensureCapacityInternal_13 ?_
  refine G_if_le (pc := 14) (tgt := 38) hC dJ4_ensureCapacityInternal_14 (by decide) (fun hc => ?_) (fun hc => ?_)
  · replace hw := hw.1 hc
    refine G_loc (lv' := [some (va_rf (some a0)), some (.int p1), none]) ⟨Or.inr rfl, Or.inr rfl, Or.inl rfl, trivial⟩ ?_
    exact g_J4_ensureCapacityInternal_s23_38 hJ hC hQ hin   M hw
  · replace hw := hw.2 hc
    refine G_aload_n (pc := 17) (i := 0) hC dJ4_ensureCapacityInternal_17 rfl rfl ?_
    refine G_aload_n (pc := 18) (i := 0) hC dJ4_ensureCapacityInternal_18 rfl rfl ?_
    refine G_getF (pc := 19) (ci := 23) (C := RJ5) (T := TJ5) (N := 4) (f := 0) hC rfl in_J5 (Nat.le_of_ble_eq_true rfl) q240 (fun _ h => h) dJ4_ensureCapacityInternal_19 hw (fun x4 hw => ?_)
    refine G_aload_n (pc := 22) (i := 0) hC dJ4_ensureCapacityInternal_22 rfl rfl ?_
    refine G_iload_n (pc := 23) (i := 1) hC dJ4_ensureCapacityInternal_23 rfl rfl ?_
    obtain ⟨hb, hw⟩ := hw
    refine G_callUP (pc := 24) (n := 1) (z := ⟨"java/lang/AbstractStringBuilder", "isLatin1", "()Z"⟩) (C := "java/lang/StringBuilder") (b := a0) (As := [.int p1]) (rest := [va_rf x4, va_rf (some a0)]) hC (m_J4_newCapacity_s23 hJ hw) q448 hJ (by decide +kernel) q467 rfl q450 q90 q451 (rcv (C := RJ5) (T := TJ5) (N := 4) hC hb rfl) hdK_J4_newCapacity_s23.2 (by decide) rfl rfl (st_c (cat_r (cat_r cat_e)) (Nat.le_of_ble_eq_true rfl)) dJ4_ensureCapacityInternal_24 (kI fun x6 M5 hw => ?_)
    refine G_aload_n (pc := 27) (i := 0) hC dJ4_ensureCapacityInternal_27 rfl rfl ?_
    refine G_getI (pc := 28) (ci := 23) (C := RJ5) (T := TJ5) (N := 4) (f := 1) hC rfl in_J5 (Nat.le_of_ble_eq_true rfl) q241 (fun _ h => h) dJ4_ensureCapacityInternal_28 hw (fun x7 hw => ?_)
    refine G_ishl (pc := 31) hC dJ4_ensureCapacityInternal_31 ?_
    refine G_callS (pc := 32) (n := 2) (As := [va_rf x4, .int (x6 <<< (x7 &&& 31))]) (rest := [va_rf (some a0)]) hC (m_J10_copyOf_3 hJ hw) (lw_S q454 q455 q96 q456) hdK_J10_copyOf_3.2 (by decide) rfl rfl (st_c (cat_r cat_e) (Nat.le_of_ble_eq_true rfl)) dJ4_ensureCapacityInternal_32 (kRf fun x9 M8 hw => ?_)
    refine G_put (pc := 35) (ci := 23) (C := RJ5) (T := TJ5) (N := 4) (f := 0) tyJ5 hC rfl in_J5 tyJ5_ok nmJ5 (Nat.le_of_ble_eq_true rfl) q240 (fun _ h => h) rfl (nR_a _ _) (fR_a _ _) dJ4_ensureCapacityInternal_35 hw (fun M10 hw => ?_)
    refine G_loc (lv' := [some (va_rf (some a0)), some (.int p1), none]) ⟨Or.inr rfl, Or.inr rfl, Or.inl rfl, trivial⟩ ?_
    exact g_J4_ensureCapacityInternal_s23_38 hJ hC hQ hin   M10 hw
def w_J17_canEncode_12 (g : gT) (F : Nat) (p0 : Int32) (Q : Int32 → hM → Prop) (s0 : Int32) (M : hM) : Prop :=
  ((s0 = 0 ∨ s0 = 1) ∧ Q s0 M)
def w_J17_canEncode (g : gT) (F : Nat) (p0 : Int32) (M : hM) (Q : Int32 → hM → Prop) : Prop :=
  (((255 : Int32) < p0 → w_J17_canEncode_12 g F p0 Q (0 : Int32) M) ∧ (¬ ((255 : Int32) < p0) → w_J17_canEncode_12 g F p0 Q (1 : Int32) M))
theorem g_J17_canEncode_12 {k : kT} {F : Nat} {p0 : Int32} {Q : Int32 → hM → Prop} (hJ : JK (kl k) (kg k)) (hC : CX k 1 cJ17_canEncode RJ17 (some .boolean) 1 12) (hQ : isQ k (PI Q)) (hin : (kt k).name = "canEncode") : ∀ (s0 : Int32) (M : hM), w_J17_canEncode_12 (kg k) F p0 Q s0 M → GW k 1 M 12 [some (.int p0)] [.int s0] := by
  intro s0 M hw
  obtain ⟨hz, hw⟩ := hw
  exact G_iret (pc := 12) hC (nz_n hz) hQ dJ17_canEncode_12 hw
theorem m_J17_canEncode {l : Launch} {g : gT} {F : Nat} {p0 : Int32} {M : hM} {Q : Int32 → hM → Prop} (hJ : JK l g) (hw : w_J17_canEncode g F p0 M Q) : MG l g yJ17_canEncode (ws_ yJ17_canEncode cJ17_canEncode 1 (some .boolean)) 1 12 [.int p0] M (PI Q) := by
  refine MG_of hJ.2.1 (by decide) (cat_i cat_e) (Nat.le_of_ble_eq_true rfl) (fun k hl hg hin hQ hC => ?_)
  subst hl hg
  show GW k 1 M 0 [some (.int p0)] []
  refine G_iload_n (pc := 0) (i := 0) hC dJ17_canEncode_0 rfl rfl ?_
  refine G_sipush (pc := 1) (v := 255) hC dJ17_canEncode_1 (by decide) ?_
  refine G_icmp_gt (pc := 4) (tgt := 11) hC dJ17_canEncode_4 (by decide) (fun hc => ?_) (fun hc => ?_)
  · replace hw := hw.1 hc
    refine G_iconst (pc := 11) (v := 0) hC dJ17_canEncode_11 (by decide) ?_
    exact g_J17_canEncode_12 hJ hC hQ hin  (0 : Int32) M hw
  · replace hw := hw.2 hc
    refine G_iconst (pc := 7) (v := 1) hC dJ17_canEncode_7 (by decide) ?_
    refine G_goto (pc := 8) (tgt := 12) hC dJ17_canEncode_8 (by decide) ?_
    exact g_J17_canEncode_12 hJ hC hQ hin  (1 : Int32) M hw
theorem hdK_J17_canEncode : yJ17_canEncode.cls = "java/lang/StringLatin1" ∧ yJ17_canEncode.cls ≠ "java/lang/invoke/MethodHandle" ∧ yJ17_canEncode.cls ≠ "java/lang/invoke/VarHandle" ∧ (parseMethodDescriptor yJ17_canEncode.desc).map (fun d => d.parameters.length) = some 1 := by decide +kernel
theorem hdK_J4_ensureCapacityInternal_s23 : yJ4_ensureCapacityInternal.cls = "java/lang/AbstractStringBuilder" ∧ yJ4_ensureCapacityInternal.cls ≠ "java/lang/invoke/MethodHandle" ∧ yJ4_ensureCapacityInternal.cls ≠ "java/lang/invoke/VarHandle" ∧ (parseMethodDescriptor yJ4_ensureCapacityInternal.desc).map (fun d => d.parameters.length) = some 1 := by decide +kernel
theorem hdK_J4_inflate_s23 : yJ4_inflate.cls = "java/lang/AbstractStringBuilder" ∧ yJ4_inflate.cls ≠ "java/lang/invoke/MethodHandle" ∧ yJ4_inflate.cls ≠ "java/lang/invoke/VarHandle" ∧ (parseMethodDescriptor yJ4_inflate.desc).map (fun d => d.parameters.length) = some 0 := by decide +kernel
theorem hdK_J7_putCharSB : yJ7_putCharSB.cls = "java/lang/StringUTF16" ∧ yJ7_putCharSB.cls ≠ "java/lang/invoke/MethodHandle" ∧ yJ7_putCharSB.cls ≠ "java/lang/invoke/VarHandle" ∧ (parseMethodDescriptor yJ7_putCharSB.desc).map (fun d => d.parameters.length) = some 3 := by decide +kernel
def w_J4_append_3_s23_75 (g : gT) (F : Nat) (a0 : Nat) (p1 : Int32) (Q : Option Nat → hM → Prop) (M : hM) : Prop :=
  Q (some a0) M
def w_J4_append_3_s23_56 (g : gT) (F : Nat) (a0 : Nat) (p1 : Int32) (Q : Option Nat → hM → Prop) (M : hM) : Prop :=
  gF M (some a0) 23 0 fun x1 => gI M (some a0) 23 3 fun x2 => pV M (some a0) 23 3 (.int (x2 + (1 : Int32))) fun M3 => w_J7_putCharSB g F x1 x2 p1 M3 (fun M4 => w_J4_append_3_s23_75 g F a0 p1 Q M4)
def w_J4_append_3_s23_45 (g : gT) (F : Nat) (a0 : Nat) (p1 : Int32) (Q : Option Nat → hM → Prop) (M : hM) : Prop :=
  (isC M a0 23 ∧ w_J4_isLatin1_s23 g F a0  M (fun x2 M1 => ((x2 = 0 → w_J4_append_3_s23_56 g F a0 p1 Q M1) ∧ (¬ (x2 = 0) → (isC M1 a0 23 ∧ w_J4_inflate_s23 g F a0  M1 (fun M3 => w_J4_append_3_s23_56 g F a0 p1 Q M3))))))
def w_J4_append_3_s23 (g : gT) (F : Nat) (a0 : Nat) (p1 : Int32) (M : hM) (Q : Option Nat → hM → Prop) : Prop :=
  gI M (some a0) 23 3 fun x1 => (isC M a0 23 ∧ w_J4_ensureCapacityInternal_s23 g F a0 (x1 + (1 : Int32)) M (fun M2 => (isC M2 a0 23 ∧ w_J4_isLatin1_s23 g F a0  M2 (fun x4 M3 => ((x4 = 0 → w_J4_append_3_s23_45 g F a0 p1 Q M3) ∧ (¬ (x4 = 0) → w_J17_canEncode g F p1 M3 (fun x6 M5 => ((x6 = 0 → w_J4_append_3_s23_45 g F a0 p1 Q M5) ∧ (¬ (x6 = 0) → gF M5 (some a0) 23 0 fun x7 => gI M5 (some a0) 23 3 fun x8 => pV M5 (some a0) 23 3 (.int (x8 + (1 : Int32))) fun M9 => sI M9 x7 4 x8 (vp_nar .byte (p1).toInt8.toInt32) fun M10 => w_J4_append_3_s23_75 g F a0 p1 Q M10)))))))))
theorem g_J4_append_3_s23_75 {k : kT} {F : Nat} {a0 : Nat} {p1 : Int32} {Q : Option Nat → hM → Prop} (hJ : JK (kl k) (kg k)) (hC : CX k 2 cJ4_append_3 RJ4 (some (.object "java/lang/AbstractStringBuilder")) 7 149) (hQ : isQ k (PR Q)) (hin : (kt k).name = "append") : ∀  (M : hM), w_J4_append_3_s23_75 (kg k) F a0 p1 Q  M → GW k 2 M 75 [some (va_rf (some a0)), some (.int p1)] [] := by
  intro  M hw
  refine G_aload_n (pc := 75) (i := 0) hC dJ4_append_3_75 rfl rfl ?_
  exact G_aret (pc := 76) hC (Or.inl ⟨_, rfl⟩) hQ dJ4_append_3_76 hw
theorem g_J4_append_3_s23_56 {k : kT} {F : Nat} {a0 : Nat} {p1 : Int32} {Q : Option Nat → hM → Prop} (hJ : JK (kl k) (kg k)) (hC : CX k 2 cJ4_append_3 RJ4 (some (.object "java/lang/AbstractStringBuilder")) 7 149) (hQ : isQ k (PR Q)) (hin : (kt k).name = "append") : ∀  (M : hM), w_J4_append_3_s23_56 (kg k) F a0 p1 Q  M → GW k 2 M 56 [some (va_rf (some a0)), some (.int p1)] [] := by
  intro  M hw
  refine G_aload_n (pc := 56) (i := 0) hC dJ4_append_3_56 rfl rfl ?_
  refine G_getF (pc := 57) (ci := 23) (C := RJ5) (T := TJ5) (N := 4) (f := 0) hC rfl in_J5 (Nat.le_of_ble_eq_true rfl) q240 (fun _ h => h) dJ4_append_3_57 hw (fun x1 hw => ?_)
  refine G_aload_n (pc := 60) (i := 0) hC dJ4_append_3_60 rfl rfl ?_
  refine G_dup (pc := 61) hC dJ4_append_3_61 (rf_cat _) ?_
  refine G_getI (pc := 62) (ci := 23) (C := RJ5) (T := TJ5) (N := 4) (f := 3) hC rfl in_J5 (Nat.le_of_ble_eq_true rfl) q244 (fun _ h => h) dJ4_append_3_62 hw (fun x2 hw => ?_)
  refine G_dup_x1 (pc := 65) hC dJ4_append_3_65 rfl (rf_cat _) ?_
  refine G_iconst (pc := 66) (v := 1) hC dJ4_append_3_66 (by decide) ?_
  refine G_iadd (pc := 67) hC dJ4_append_3_67 ?_
  refine G_put (pc := 68) (ci := 23) (C := RJ5) (T := TJ5) (N := 4) (f := 3) tyJ5 hC rfl in_J5 tyJ5_ok nmJ5 (Nat.le_of_ble_eq_true rfl) q244 (fun _ h => h) rfl rfl rfl dJ4_append_3_68 hw (fun M3 hw => ?_)
  refine G_iload_n (pc := 71) (i := 1) hC dJ4_append_3_71 rfl rfl ?_
  refine G_callS (pc := 72) (n := 3) (As := [va_rf x1, .int x2, .int p1]) (rest := []) hC (m_J7_putCharSB hJ hw) (lw_S q1733 q1734 q93 q1735) hdK_J7_putCharSB.2 (by decide) rfl rfl (st_c cat_e (Nat.le_of_ble_eq_true rfl)) dJ4_append_3_72 (kU fun M4 hw => ?_)
  exact g_J4_append_3_s23_75 hJ hC hQ hin   M4 hw
theorem g_J4_append_3_s23_45 {k : kT} {F : Nat} {a0 : Nat} {p1 : Int32} {Q : Option Nat → hM → Prop} (hJ : JK (kl k) (kg k)) (hC : CX k 2 cJ4_append_3 RJ4 (some (.object "java/lang/AbstractStringBuilder")) 7 149) (hQ : isQ k (PR Q)) (hin : (kt k).name = "append") : ∀  (M : hM), w_J4_append_3_s23_45 (kg k) F a0 p1 Q  M → GW k 2 M 45 [some (va_rf (some a0)), some (.int p1)] [] := by
  intro  M hw
  refine G_aload_n (pc := 45) (i := 0) hC dJ4_append_3_45 rfl rfl ?_
  obtain ⟨hb, hw⟩ := hw
  refine G_callU (pc := 46) (n := 0) (x := ⟨"java/lang/AbstractStringBuilder", "isLatin1", "()Z"⟩) (owner := "java/lang/AbstractStringBuilder") (C := "java/lang/StringBuilder") (b := a0) (As := []) (rest := []) hC (m_J4_isLatin1_s23 hJ hw) (lw_U q464 q466 q467 q465 q90 q468) rfl (rcv (C := RJ5) (T := TJ5) (N := 4) hC hb rfl) hdK_J4_isLatin1_s23.2 (by decide) rfl rfl (st_c cat_e (Nat.le_of_ble_eq_true rfl)) dJ4_append_3_46 (kI fun x2 M1 hw => ?_)
  refine G_if_eq (pc := 49) (tgt := 56) hC dJ4_append_3_49 (by decide) (fun hc => ?_) (fun hc => ?_)
  · replace hw := hw.1 hc
    exact g_J4_append_3_s23_56 hJ hC hQ hin   M1 hw
  · replace hw := hw.2 hc
    refine G_aload_n (pc := 52) (i := 0) hC dJ4_append_3_52 rfl rfl ?_
    obtain ⟨hb, hw⟩ := hw
    refine G_callUP (pc := 53) (n := 0) (z := ⟨"java/lang/AbstractStringBuilder", "isLatin1", "()Z"⟩) (C := "java/lang/StringBuilder") (b := a0) (As := []) (rest := []) hC (m_J4_inflate_s23 hJ hw) q513 hJ (by decide +kernel) q467 rfl q515 q90 q516 (rcv (C := RJ5) (T := TJ5) (N := 4) hC hb rfl) hdK_J4_inflate_s23.2 (by decide) rfl rfl (st_c cat_e (Nat.le_of_ble_eq_true rfl)) dJ4_append_3_53 (kU fun M3 hw => ?_)
    exact g_J4_append_3_s23_56 hJ hC hQ hin   M3 hw
theorem m_J4_append_3_s23 {l : Launch} {g : gT} {F : Nat} {a0 : Nat} {p1 : Int32} {M : hM} {Q : Option Nat → hM → Prop} (hJ : JK l g) (hw : w_J4_append_3_s23 g F a0 p1 M Q) : MG l g yJ4_append_3 (ws_ yJ4_append_3 cJ4_append_3 2 (some (.object "java/lang/AbstractStringBuilder"))) 7 149 [va_rf (some a0), .int p1] M (PR Q) := by
  refine MG_of hJ.2.1 (by decide) (cat_r (cat_i cat_e)) (Nat.le_of_ble_eq_true rfl) (fun k hl hg hin hQ hC => ?_)
  subst hl hg
  show GW k 2 M 0 [some (va_rf (some a0)), some (.int p1)] []
  refine G_aload_n (pc := 0) (i := 0) hC dJ4_append_3_0 rfl rfl ?_
  refine G_aload_n (pc := 1) (i := 0) hC dJ4_append_3_1 rfl rfl ?_
  refine G_getI (pc := 2) (ci := 23) (C := RJ5) (T := TJ5) (N := 4) (f := 3) hC rfl in_J5 (Nat.le_of_ble_eq_true rfl) q244 (fun _ h => h) dJ4_append_3_2 hw (fun x1 hw => ?_)
  refine G_iconst (pc := 5) (v := 1) hC dJ4_append_3_5 (by decide) ?_
  refine G_iadd (pc := 6) hC dJ4_append_3_6 ?_
  obtain ⟨hb, hw⟩ := hw
  refine G_callUP (pc := 7) (n := 1) (z := ⟨"java/lang/AbstractStringBuilder", "isLatin1", "()Z"⟩) (C := "java/lang/StringBuilder") (b := a0) (As := [.int (x1 + (1 : Int32))]) (rest := []) hC (m_J4_ensureCapacityInternal_s23 hJ hw) q444 hJ (by decide +kernel) q467 rfl q446 q90 q447 (rcv (C := RJ5) (T := TJ5) (N := 4) hC hb rfl) hdK_J4_ensureCapacityInternal_s23.2 (by decide) rfl rfl (st_c cat_e (Nat.le_of_ble_eq_true rfl)) dJ4_append_3_7 (kU fun M2 hw => ?_)
  refine G_aload_n (pc := 10) (i := 0) hC dJ4_append_3_10 rfl rfl ?_
  obtain ⟨hb, hw⟩ := hw
  refine G_callU (pc := 11) (n := 0) (x := ⟨"java/lang/AbstractStringBuilder", "isLatin1", "()Z"⟩) (owner := "java/lang/AbstractStringBuilder") (C := "java/lang/StringBuilder") (b := a0) (As := []) (rest := []) hC (m_J4_isLatin1_s23 hJ hw) (lw_U q464 q466 q467 q465 q90 q468) rfl (rcv (C := RJ5) (T := TJ5) (N := 4) hC hb rfl) hdK_J4_isLatin1_s23.2 (by decide) rfl rfl (st_c cat_e (Nat.le_of_ble_eq_true rfl)) dJ4_append_3_11 (kI fun x4 M3 hw => ?_)
  refine G_if_eq (pc := 14) (tgt := 45) hC dJ4_append_3_14 (by decide) (fun hc => ?_) (fun hc => ?_)
  · replace hw := hw.1 hc
    exact g_J4_append_3_s23_45 hJ hC hQ hin   M3 hw
  · replace hw := hw.2 hc
    refine G_iload_n (pc := 17) (i := 1) hC dJ4_append_3_17 rfl rfl ?_
    refine G_callS (pc := 18) (n := 1) (As := [.int p1]) (rest := []) hC (m_J17_canEncode hJ hw) (lw_S q1730 q1731 q104 q1732) hdK_J17_canEncode.2 (by decide) rfl rfl (st_c cat_e (Nat.le_of_ble_eq_true rfl)) dJ4_append_3_18 (kI fun x6 M5 hw => ?_)
    refine G_if_eq (pc := 21) (tgt := 45) hC dJ4_append_3_21 (by decide) (fun hc => ?_) (fun hc => ?_)
    · replace hw := hw.1 hc
      exact g_J4_append_3_s23_45 hJ hC hQ hin   M5 hw
    · replace hw := hw.2 hc
      refine G_aload_n (pc := 24) (i := 0) hC dJ4_append_3_24 rfl rfl ?_
      refine G_getF (pc := 25) (ci := 23) (C := RJ5) (T := TJ5) (N := 4) (f := 0) hC rfl in_J5 (Nat.le_of_ble_eq_true rfl) q240 (fun _ h => h) dJ4_append_3_25 hw (fun x7 hw => ?_)
      refine G_aload_n (pc := 28) (i := 0) hC dJ4_append_3_28 rfl rfl ?_
      refine G_dup (pc := 29) hC dJ4_append_3_29 (rf_cat _) ?_
      refine G_getI (pc := 30) (ci := 23) (C := RJ5) (T := TJ5) (N := 4) (f := 3) hC rfl in_J5 (Nat.le_of_ble_eq_true rfl) q244 (fun _ h => h) dJ4_append_3_30 hw (fun x8 hw => ?_)
      refine G_dup_x1 (pc := 33) hC dJ4_append_3_33 rfl (rf_cat _) ?_
      refine G_iconst (pc := 34) (v := 1) hC dJ4_append_3_34 (by decide) ?_
      refine G_iadd (pc := 35) hC dJ4_append_3_35 ?_
      refine G_put (pc := 36) (ci := 23) (C := RJ5) (T := TJ5) (N := 4) (f := 3) tyJ5 hC rfl in_J5 tyJ5_ok nmJ5 (Nat.le_of_ble_eq_true rfl) q244 (fun _ h => h) rfl rfl rfl dJ4_append_3_36 hw (fun M9 hw => ?_)
      refine G_iload_n (pc := 39) (i := 1) hC dJ4_append_3_39 rfl rfl ?_
      refine G_i2b (pc := 40) hC dJ4_append_3_40 ?_
      refine G_bast (pc := 41) hC dJ4_append_3_41 hw (fun M10 hw => ?_)
      refine G_goto (pc := 42) (tgt := 75) hC dJ4_append_3_42 (by decide) ?_
      exact g_J4_append_3_s23_75 hJ hC hQ hin   M10 hw
def w_J5_append_3 (g : gT) (F : Nat) (a0 : Nat) (p1 : Int32) (M : hM) (Q : Option Nat → hM → Prop) : Prop :=
  (isC M a0 23 ∧ w_J4_append_3_s23 g F a0 p1 M (fun x2 M1 => Q (some a0) M1))
theorem m_J5_append_3 {l : Launch} {g : gT} {F : Nat} {a0 : Nat} {p1 : Int32} {M : hM} {Q : Option Nat → hM → Prop} (hJ : JK l g) (hw : w_J5_append_3 g F a0 p1 M Q) : MG l g yJ5_append_3 (ws_ yJ5_append_3 cJ5_append_3 2 (some (.object "java/lang/StringBuilder"))) 8 170 [va_rf (some a0), .int p1] M (PR Q) := by
  refine MG_of hJ.2.1 (by decide) (cat_r (cat_i cat_e)) (Nat.le_of_ble_eq_true rfl) (fun k hl hg hin hQ hC => ?_)
  subst hl hg
  show GW k 2 M 0 [some (va_rf (some a0)), some (.int p1)] []
  refine G_aload_n (pc := 0) (i := 0) hC dJ5_append_3_0 rfl rfl ?_
  refine G_iload_n (pc := 1) (i := 1) hC dJ5_append_3_1 rfl rfl ?_
  obtain ⟨hb, hw⟩ := hw
  refine G_callSU (pc := 2) (n := 1) (ci := 23) (C := RJ5) (T := TJ5) (N := 4) (b := a0) (As := [.int p1]) (rest := []) hC rfl (m_J4_append_3_s23 hJ hw) (lw_SU q1727 q3872 q253 q1728 q90 q1729) (rcv (C := RJ5) (T := TJ5) (N := 4) hC hb rfl) (by decide +kernel) (by decide) rfl rfl (st_c cat_e (Nat.le_of_ble_eq_true rfl)) dJ5_append_3_2 (kRf fun x2 M1 hw => ?_)
  refine G_pop (pc := 5) hC dJ5_append_3_5 (rf_cat _) ?_
  refine G_aload_n (pc := 6) (i := 0) hC dJ5_append_3_6 rfl rfl ?_
  exact G_aret (pc := 7) hC (Or.inl ⟨_, rfl⟩) hQ dJ5_append_3_7 hw
def w_J10_checkLength (g : gT) (F : Nat) (p0 : Int32) (p1 : Int32) (M : hM) (Q : hM → Prop) : Prop :=
  ((p0 ≤ p1 → Q M) ∧ (¬ (p0 ≤ p1) → False))
theorem m_J10_checkLength {l : Launch} {g : gT} {F : Nat} {p0 : Int32} {p1 : Int32} {M : hM} {Q : hM → Prop} (hJ : JK l g) (hw : w_J10_checkLength g F p0 p1 M Q) : MG l g yJ10_checkLength (ws_ yJ10_checkLength cJ10_checkLength 2 none) 1 12 [.int p0, .int p1] M (PU Q) := by
  refine MG_of hJ.2.1 (by decide) (cat_i (cat_i cat_e)) (Nat.le_of_ble_eq_true rfl) (fun k hl hg hin hQ hC => ?_)
  subst hl hg
  show GW k 2 M 0 [some (.int p0), some (.int p1)] []
  refine G_iload_n (pc := 0) (i := 1) hC dJ10_checkLength_0 rfl rfl ?_
  refine G_iload_n (pc := 1) (i := 0) hC dJ10_checkLength_1 rfl rfl ?_
  refine G_icmp_ge (pc := 2) (tgt := 37) hC dJ10_checkLength_2 (by decide) (fun hc => ?_) (fun hc => ?_)
  · replace hw := hw.1 hc
    exact G_ret (pc := 37) hC hQ dJ10_checkLength_37 hw
  · replace hw := hw.2 hc
    exact hw.elim
theorem hdK_J10_checkLength : yJ10_checkLength.cls = "java/util/Arrays" ∧ yJ10_checkLength.cls ≠ "java/lang/invoke/MethodHandle" ∧ yJ10_checkLength.cls ≠ "java/lang/invoke/VarHandle" ∧ (parseMethodDescriptor yJ10_checkLength.desc).map (fun d => d.parameters.length) = some 2 := by decide +kernel
def w_J10_copyOfRangeByte (g : gT) (F : Nat) (p0 : Option Nat) (p1 : Int32) (p2 : Int32) (M : hM) (Q : Option Nat → hM → Prop) : Prop :=
  w_J10_checkLength g F p1 p2 M (fun M1 => nA M1 4 (p2 - p1) (.inl (fun _ => 0)) fun q2 M3 => aLenK g M3 p0 fun x4 => cB M3 p0 p1 (some q2) (0 : Int32) (if (p2 - p1) < (x4 - p1) then (p2 - p1) else (x4 - p1)) fun M5 => Q (some q2) M5)
theorem m_J10_copyOfRangeByte {l : Launch} {g : gT} {F : Nat} {p0 : Option Nat} {p1 : Int32} {p2 : Int32} {M : hM} {Q : Option Nat → hM → Prop} (hJ : JK l g) (hw : w_J10_copyOfRangeByte g F p0 p1 p2 M Q) : MG l g yJ10_copyOfRangeByte (ws_ yJ10_copyOfRangeByte cJ10_copyOfRangeByte 5 (some (.array .byte))) 2 40 [va_rf p0, .int p1, .int p2] M (PR Q) := by
  refine MG_of hJ.2.1 (by decide) (cat_r (cat_i (cat_i cat_e))) (Nat.le_of_ble_eq_true rfl) (fun k hl hg hin hQ hC => ?_)
  subst hl hg
  show GW k 5 M 0 [some (va_rf p0), some (.int p1), some (.int p2), none, none] []
  refine G_iload_n (pc := 0) (i := 1) hC dJ10_copyOfRangeByte_0 rfl rfl ?_
  refine G_iload_n (pc := 1) (i := 2) hC dJ10_copyOfRangeByte_1 rfl rfl ?_
  refine G_callS (pc := 2) (n := 2) (As := [.int p1, .int p2]) (rest := []) hC (m_J10_checkLength hJ hw) (lw_S q597 q598 q96 q599) hdK_J10_checkLength.2 (by decide) rfl rfl (st_c cat_e (Nat.le_of_ble_eq_true rfl)) dJ10_copyOfRangeByte_2 (kU fun M1 hw => ?_)
  refine G_iload_n (pc := 5) (i := 2) hC dJ10_copyOfRangeByte_5 rfl rfl ?_
  refine G_iload_n (pc := 6) (i := 1) hC dJ10_copyOfRangeByte_6 rfl rfl ?_
  refine G_isub (pc := 7) hC dJ10_copyOfRangeByte_7 ?_
  refine G_istore_n (pc := 8) (i := 3) (lw := [some (va_rf p0), some (.int p1), some (.int p2), some (.int (p2 - p1)), none]) hC dJ10_copyOfRangeByte_8 rfl (Nat.le_of_ble_eq_true rfl) rfl ?_
  refine G_iload_n (pc := 9) (i := 3) hC dJ10_copyOfRangeByte_9 rfl rfl ?_
  refine G_newB (pc := 10) hC q254 dJ10_copyOfRangeByte_10 hw (fun q2 M3 hw => ?_)
  refine G_astore (pc := 12) (i := 4) (lw := [some (va_rf p0), some (.int p1), some (.int p2), some (.int (p2 - p1)), some (va_rf (some q2))]) hC dJ10_copyOfRangeByte_12 (Nat.le_of_ble_eq_true rfl) rfl ?_
  refine G_aload_n (pc := 14) (i := 0) hC dJ10_copyOfRangeByte_14 rfl rfl ?_
  refine G_iload_n (pc := 15) (i := 1) hC dJ10_copyOfRangeByte_15 rfl rfl ?_
  refine G_aload (pc := 16) (i := 4) hC dJ10_copyOfRangeByte_16 rfl ?_
  refine G_iconst (pc := 18) (v := 0) hC dJ10_copyOfRangeByte_18 (by decide) ?_
  refine G_aload_n (pc := 19) (i := 0) hC dJ10_copyOfRangeByte_19 rfl rfl ?_
  refine G_alenK (pc := 20) hJ hC dJ10_copyOfRangeByte_20 hw (fun x4 hw => ?_)
  refine G_iload_n (pc := 21) (i := 1) hC dJ10_copyOfRangeByte_21 rfl rfl ?_
  refine G_isub (pc := 22) hC dJ10_copyOfRangeByte_22 ?_
  refine G_iload_n (pc := 23) (i := 3) hC dJ10_copyOfRangeByte_23 rfl rfl ?_
  refine G_min (pc := 24) hC q345 q346 q95 q347 rfl rfl (st_c (cat_i (cat_r (cat_i (cat_r cat_e)))) (Nat.le_of_ble_eq_true rfl)) dJ10_copyOfRangeByte_24 ?_
  refine G_copyB (pc := 27) hC q348 q350 q349 q97 (st_c cat_e (Nat.le_of_ble_eq_true rfl)) rfl rfl dJ10_copyOfRangeByte_27 hw (fun M5 hw => ?_)
  refine G_aload (pc := 30) (i := 4) hC dJ10_copyOfRangeByte_30 rfl ?_
  exact G_aret (pc := 32) hC (Or.inr ⟨_, rfl⟩) hQ dJ10_copyOfRangeByte_32 hw
theorem hdK_J10_copyOfRangeByte : yJ10_copyOfRangeByte.cls = "java/util/Arrays" ∧ yJ10_copyOfRangeByte.cls ≠ "java/lang/invoke/MethodHandle" ∧ yJ10_copyOfRangeByte.cls ≠ "java/lang/invoke/VarHandle" ∧ (parseMethodDescriptor yJ10_copyOfRangeByte.desc).map (fun d => d.parameters.length) = some 3 := by decide +kernel
def w_J10_copyOfRange_10 (g : gT) (F : Nat) (p0 : Option Nat) (p1 : Int32) (p2 : Int32) (Q : Option Nat → hM → Prop) (M : hM) : Prop :=
  w_J10_copyOfRangeByte g F p0 p1 p2 M (fun x2 M1 => Q x2 M1)
def w_J10_copyOfRange (g : gT) (F : Nat) (p0 : Option Nat) (p1 : Int32) (p2 : Int32) (M : hM) (Q : Option Nat → hM → Prop) : Prop :=
  ((¬ p1 = 0 → w_J10_copyOfRange_10 g F p0 p1 p2 Q M) ∧ (p1 = 0 → aLenK g M p0 fun x1 => ((p2 = x1 → clB M p0 fun q3 M2 => ckBy M2 (some q3) (Q (some q3) M2)) ∧ (¬ (p2 = x1) → w_J10_copyOfRange_10 g F p0 p1 p2 Q M))))
theorem g_J10_copyOfRange_10 {k : kT} {F : Nat} {p0 : Option Nat} {p1 : Int32} {p2 : Int32} {Q : Option Nat → hM → Prop} (hJ : JK (kl k) (kg k)) (hC : CX k 3 cJ10_copyOfRange RJ10 (some (.array .byte)) 3 64) (hQ : isQ k (PR Q)) (hin : (kt k).name = "copyOfRange") : ∀  (M : hM), w_J10_copyOfRange_10 (kg k) F p0 p1 p2 Q  M → GW k 3 M 10 [some (va_rf p0), some (.int p1), some (.int p2)] [] := by
  intro  M hw
  refine G_aload_n (pc := 10) (i := 0) hC dJ10_copyOfRange_10 rfl rfl ?_
  refine G_iload_n (pc := 11) (i := 1) hC dJ10_copyOfRange_11 rfl rfl ?_
  refine G_iload_n (pc := 12) (i := 2) hC dJ10_copyOfRange_12 rfl rfl ?_
  refine G_callS (pc := 13) (n := 3) (As := [va_rf p0, .int p1, .int p2]) (rest := []) hC (m_J10_copyOfRangeByte hJ hw) (lw_S q594 q595 q96 q596) hdK_J10_copyOfRangeByte.2 (by decide) rfl rfl (st_c cat_e (Nat.le_of_ble_eq_true rfl)) dJ10_copyOfRange_13 (kRf fun x2 M1 hw => ?_)
  exact G_aret (pc := 16) hC (Or.inr ⟨_, rfl⟩) hQ dJ10_copyOfRange_16 hw
theorem m_J10_copyOfRange {l : Launch} {g : gT} {F : Nat} {p0 : Option Nat} {p1 : Int32} {p2 : Int32} {M : hM} {Q : Option Nat → hM → Prop} (hJ : JK l g) (hw : w_J10_copyOfRange g F p0 p1 p2 M Q) : MG l g yJ10_copyOfRange (ws_ yJ10_copyOfRange cJ10_copyOfRange 3 (some (.array .byte))) 3 64 [va_rf p0, .int p1, .int p2] M (PR Q) := by
  refine MG_of hJ.2.1 (by decide) (cat_r (cat_i (cat_i cat_e))) (Nat.le_of_ble_eq_true rfl) (fun k hl hg hin hQ hC => ?_)
  subst hl hg
  show GW k 3 M 0 [some (va_rf p0), some (.int p1), some (.int p2)] []
  refine G_iload_n (pc := 0) (i := 1) hC dJ10_copyOfRange_0 rfl rfl ?_
  refine G_if_ne (pc := 1) (tgt := 10) hC dJ10_copyOfRange_1 (by decide) (fun hc => ?_) (fun hc => ?_)
  · replace hw := hw.1 hc
    exact g_J10_copyOfRange_10 hJ hC hQ hin   M hw
  · replace hw := hw.2 hc
    refine G_iload_n (pc := 4) (i := 2) hC dJ10_copyOfRange_4 rfl rfl ?_
    refine G_aload_n (pc := 5) (i := 0) hC dJ10_copyOfRange_5 rfl rfl ?_
    refine G_alenK (pc := 6) hJ hC dJ10_copyOfRange_6 hw (fun x1 hw => ?_)
    refine G_icmp_eq (pc := 7) (tgt := 17) hC dJ10_copyOfRange_7 (by decide) (fun hc => ?_) (fun hc => ?_)
    · replace hw := hw.1 hc
      refine G_aload_n (pc := 17) (i := 0) hC dJ10_copyOfRange_17 rfl rfl ?_
      refine G_cloneB (pc := 18) hC q457 q458 q459 q460 q461 (nw_in q462 rfl) (st_c cat_e (Nat.le_of_ble_eq_true rfl)) rfl rfl dJ10_copyOfRange_18 hw (fun q3 M2 hw => ?_)
      obtain ⟨hb, hw⟩ := hw
      refine G_castBy (pc := 21) hC q463 hb dJ10_copyOfRange_21 ?_
      exact G_aret (pc := 24) hC (Or.inr ⟨_, rfl⟩) hQ dJ10_copyOfRange_24 hw
    · replace hw := hw.2 hc
      exact g_J10_copyOfRange_10 hJ hC hQ hin   M hw
def w_J4_getValue_s23 (g : gT) (F : Nat) (a0 : Nat) (M : hM) (Q : Option Nat → hM → Prop) : Prop :=
  gF M (some a0) 23 0 fun x1 => Q x1 M
theorem m_J4_getValue_s23 {l : Launch} {g : gT} {F : Nat} {a0 : Nat} {M : hM} {Q : Option Nat → hM → Prop} (hJ : JK l g) (hw : w_J4_getValue_s23 g F a0 M Q) : MG l g yJ4_getValue (ws_ yJ4_getValue cJ4_getValue 1 (some (.array .byte))) 1 12 [va_rf (some a0)] M (PR Q) := by
  refine MG_of hJ.2.1 (by decide) (cat_r cat_e) (Nat.le_of_ble_eq_true rfl) (fun k hl hg hin hQ hC => ?_)
  subst hl hg
  show GW k 1 M 0 [some (va_rf (some a0))] []
  refine G_aload_n (pc := 0) (i := 0) hC dJ4_getValue_0 rfl rfl ?_
  refine G_getF (pc := 1) (ci := 23) (C := RJ5) (T := TJ5) (N := 4) (f := 0) hC rfl in_J5 (Nat.le_of_ble_eq_true rfl) q240 (fun _ h => h) dJ4_getValue_1 hw (fun x1 hw => ?_)
  exact G_aret (pc := 4) hC (Or.inr ⟨_, rfl⟩) hQ dJ4_getValue_4 hw
def w_J4_length_s23 (g : gT) (F : Nat) (a0 : Nat) (M : hM) (Q : Int32 → hM → Prop) : Prop :=
  gI M (some a0) 23 3 fun x1 => Q x1 M
theorem m_J4_length_s23 {l : Launch} {g : gT} {F : Nat} {a0 : Nat} {M : hM} {Q : Int32 → hM → Prop} (hJ : JK l g) (hw : w_J4_length_s23 g F a0 M Q) : MG l g yJ4_length (ws_ yJ4_length cJ4_length 1 (some .int)) 1 12 [va_rf (some a0)] M (PI Q) := by
  refine MG_of hJ.2.1 (by decide) (cat_r cat_e) (Nat.le_of_ble_eq_true rfl) (fun k hl hg hin hQ hC => ?_)
  subst hl hg
  show GW k 1 M 0 [some (va_rf (some a0))] []
  refine G_aload_n (pc := 0) (i := 0) hC dJ4_length_0 rfl rfl ?_
  refine G_getI (pc := 1) (ci := 23) (C := RJ5) (T := TJ5) (N := 4) (f := 3) hC rfl in_J5 (Nat.le_of_ble_eq_true rfl) q244 (fun _ h => h) dJ4_length_1 hw (fun x1 hw => ?_)
  exact G_iret (pc := 4) hC rfl hQ dJ4_length_4 hw
def w_J5_length (g : gT) (F : Nat) (a0 : Nat) (M : hM) (Q : Int32 → hM → Prop) : Prop :=
  (isC M a0 23 ∧ w_J4_length_s23 g F a0  M (fun x2 M1 => Q x2 M1))
theorem m_J5_length {l : Launch} {g : gT} {F : Nat} {a0 : Nat} {M : hM} {Q : Int32 → hM → Prop} (hJ : JK l g) (hw : w_J5_length g F a0 M Q) : MG l g yJ5_length (ws_ yJ5_length cJ5_length 1 (some .int)) 2 32 [va_rf (some a0)] M (PI Q) := by
  refine MG_of hJ.2.1 (by decide) (cat_r cat_e) (Nat.le_of_ble_eq_true rfl) (fun k hl hg hin hQ hC => ?_)
  subst hl hg
  show GW k 1 M 0 [some (va_rf (some a0))] []
  refine G_aload_n (pc := 0) (i := 0) hC dJ5_length_0 rfl rfl ?_
  obtain ⟨hb, hw⟩ := hw
  refine G_callSU (pc := 1) (n := 0) (ci := 23) (C := RJ5) (T := TJ5) (N := 4) (b := a0) (As := []) (rest := []) hC rfl (m_J4_length_s23 hJ hw) (lw_SU q588 q584 q253 q583 q90 q589) (rcv (C := RJ5) (T := TJ5) (N := 4) hC hb rfl) (by decide +kernel) (by decide) rfl rfl (st_c cat_e (Nat.le_of_ble_eq_true rfl)) dJ5_length_1 (kI fun x2 M1 hw => ?_)
  exact G_iret (pc := 4) hC rfl hQ dJ5_length_4 hw
theorem hdK_J10_copyOfRange : yJ10_copyOfRange.cls = "java/util/Arrays" ∧ yJ10_copyOfRange.cls ≠ "java/lang/invoke/MethodHandle" ∧ yJ10_copyOfRange.cls ≠ "java/lang/invoke/VarHandle" ∧ (parseMethodDescriptor yJ10_copyOfRange.desc).map (fun d => d.parameters.length) = some 3 := by decide +kernel
theorem hdK_J4_getValue_s23 : yJ4_getValue.cls = "java/lang/AbstractStringBuilder" ∧ yJ4_getValue.cls ≠ "java/lang/invoke/MethodHandle" ∧ yJ4_getValue.cls ≠ "java/lang/invoke/VarHandle" ∧ (parseMethodDescriptor yJ4_getValue.desc).map (fun d => d.parameters.length) = some 0 := by decide +kernel
def w_J6_init_2_97 (g : gT) (F : Nat) (a0 : Nat) (p1 : Option Nat) (p2 : Option Nat) (Q : hM → Prop) (M : hM) : Prop :=
  Q M
def w_J6_init_2_79 (g : gT) (F : Nat) (a0 : Nat) (p1 : Option Nat) (p2 : Option Nat) (Q : hM → Prop) (v3 : Option Nat) (v4 : Int32) (M : hM) : Prop :=
  pV M (some a0) 24 1 (.int (1 : Int32)) fun M1 => w_J10_copyOfRange g F v3 (0 : Int32) (v4 <<< ((1 : Int32) &&& 31)) M1 (fun x3 M2 => pV M2 (some a0) 24 0 (va_rf x3) fun M4 => w_J6_init_2_97 g F a0 p1 p2 Q M4)
def w_J6_init_2 (g : gT) (F : Nat) (a0 : Nat) (p1 : Option Nat) (p2 : Option Nat) (M : hM) (Q : hM → Prop) : Prop :=
  gThis M p1 23 fun b2 => w_J4_getValue_s23 g F b2  M (fun x3 M1 => (isC M1 b2 23 ∧ w_J5_length g F b2  M1 (fun x5 M4 => (isC M4 b2 23 ∧ w_J4_isLatin1_s23 g F b2  M4 (fun x7 M6 => ((x7 = 0 → (((1 : Int32) = 0 → w_J6_init_2_79 g F a0 p1 p2 Q x3 x5 M6) ∧ (¬ ((1 : Int32) = 0) → False))) ∧ (¬ (x7 = 0) → pV M6 (some a0) 24 1 (.int (0 : Int32)) fun M8 => w_J10_copyOfRange g F x3 (0 : Int32) x5 M8 (fun x10 M9 => pV M9 (some a0) 24 0 (va_rf x10) fun M11 => w_J6_init_2_97 g F a0 p1 p2 Q M11))))))))
theorem g_J6_init_2_97 {k : kT} {F : Nat} {a0 : Nat} {p1 : Option Nat} {p2 : Option Nat} {Q : hM → Prop} (hJ : JK (kl k) (kg k)) (hC : CX k 5 cJ6_init_2 RJ6 none 4 86) (hQ : isQ k (PU Q)) (hin : (kt k).name = "<init>") : ∀  (M : hM), w_J6_init_2_97 (kg k) F a0 p1 p2 Q  M → GW k 5 M 97 [some (va_rf (some a0)), some (va_rf p1), some (va_rf p2), none, none] [] := by
  intro  M hw
  exact G_ret (pc := 97) hC hQ dJ6_init_2_97 hw
theorem g_J6_init_2_79 {k : kT} {F : Nat} {a0 : Nat} {p1 : Option Nat} {p2 : Option Nat} {Q : hM → Prop} (hJ : JK (kl k) (kg k)) (hC : CX k 5 cJ6_init_2 RJ6 none 4 86) (hQ : isQ k (PU Q)) (hin : (kt k).name = "<init>") : ∀ (v3 : Option Nat) (v4 : Int32) (M : hM), w_J6_init_2_79 (kg k) F a0 p1 p2 Q v3 v4 M → GW k 5 M 79 [some (va_rf (some a0)), some (va_rf p1), some (va_rf p2), some (va_rf v3), some (.int v4)] [] := by
  intro v3 v4 M hw
  refine G_aload_n (pc := 79) (i := 0) hC dJ6_init_2_79 rfl rfl ?_
  refine G_iconst (pc := 80) (v := 1) hC dJ6_init_2_80 (by decide) ?_
  refine G_putF (pc := 81) (ci := 24) (C := RJ6) (T := TJ6) (N := 4) (f := 1) tyJ6 hC rfl in_J6 tyJ6_ok nmJ6 (Nat.le_of_ble_eq_true rfl) q654 (fun _ h => h) rfl hin rfl rfl rfl dJ6_init_2_81 hw (fun M1 hw => ?_)
  refine G_aload_n (pc := 84) (i := 0) hC dJ6_init_2_84 rfl rfl ?_
  refine G_aload_n (pc := 85) (i := 3) hC dJ6_init_2_85 rfl rfl ?_
  refine G_iconst (pc := 86) (v := 0) hC dJ6_init_2_86 (by decide) ?_
  refine G_iload (pc := 87) (i := 4) hC dJ6_init_2_87 rfl ?_
  refine G_iconst (pc := 89) (v := 1) hC dJ6_init_2_89 (by decide) ?_
  refine G_ishl (pc := 90) hC dJ6_init_2_90 ?_
  refine G_callS (pc := 91) (n := 3) (As := [va_rf v3, .int (0 : Int32), .int (v4 <<< ((1 : Int32) &&& 31))]) (rest := [va_rf (some a0)]) hC (m_J10_copyOfRange hJ hw) (lw_S q591 q592 q96 q593) hdK_J10_copyOfRange.2 (by decide) rfl rfl (st_c (cat_r cat_e) (Nat.le_of_ble_eq_true rfl)) dJ6_init_2_91 (kRf fun x3 M2 hw => ?_)
  refine G_putF (pc := 94) (ci := 24) (C := RJ6) (T := TJ6) (N := 4) (f := 0) tyJ6 hC rfl in_J6 tyJ6_ok nmJ6 (Nat.le_of_ble_eq_true rfl) q653 (fun _ h => h) rfl hin rfl (nR_a _ _) (fR_a _ _) dJ6_init_2_94 hw (fun M4 hw => ?_)
  refine G_loc (lv' := [some (va_rf (some a0)), some (va_rf p1), some (va_rf p2), none, none]) ⟨Or.inr rfl, Or.inr rfl, Or.inr rfl, Or.inl rfl, Or.inl rfl, trivial⟩ ?_
  exact g_J6_init_2_97 hJ hC hQ hin   M4 hw
theorem m_J6_init_2 {l : Launch} {g : gT} {F : Nat} {a0 : Nat} {p1 : Option Nat} {p2 : Option Nat} {M : hM} {Q : hM → Prop} (hJ : JK l g) (hw : w_J6_init_2 g F a0 p1 p2 M Q) : MG l g yJ6_init_2 (ws_ yJ6_init_2 cJ6_init_2 5 none) 4 86 [va_rf (some a0), va_rf p1, va_rf p2] M (PU Q) := by
  refine MG_of hJ.2.1 (by decide) (cat_r (cat_r (cat_r cat_e))) (Nat.le_of_ble_eq_true rfl) (fun k hl hg hin hQ hC => ?_)
  subst hl hg
  show GW k 5 M 0 [some (va_rf (some a0)), some (va_rf p1), some (va_rf p2), none, none] []
  refine G_aload_n (pc := 0) (i := 0) hC dJ6_init_2_0 rfl rfl ?_
  refine G_objInit (pc := 1) hC q576 q158 q159 rfl rfl (st_c cat_e (Nat.le_of_ble_eq_true rfl)) dJ6_init_2_1 ?_
  refine G_aload_n (pc := 4) (i := 1) hC dJ6_init_2_4 rfl rfl ?_
  obtain ⟨b2, rfl, hb, hw⟩ := gThis_e hw
  refine G_callU (pc := 5) (n := 0) (x := ⟨"java/lang/AbstractStringBuilder", "getValue", "()[B"⟩) (owner := "java/lang/AbstractStringBuilder") (C := "java/lang/StringBuilder") (b := b2) (As := []) (rest := []) hC (m_J4_getValue_s23 hJ hw) (lw_U q577 q579 q580 q578 q90 q581) rfl (rcv (C := RJ5) (T := TJ5) (N := 4) hC hb rfl) hdK_J4_getValue_s23.2 (by decide) rfl rfl (st_c cat_e (Nat.le_of_ble_eq_true rfl)) dJ6_init_2_5 (kRf fun x3 M1 hw => ?_)
  refine G_astore_n (pc := 8) (i := 3) (lw := [some (va_rf (some a0)), some (va_rf (some b2)), some (va_rf p2), some (va_rf x3), none]) hC dJ6_init_2_8 rfl (Nat.le_of_ble_eq_true rfl) rfl ?_
  refine G_aload_n (pc := 9) (i := 1) hC dJ6_init_2_9 rfl rfl ?_
  obtain ⟨hb, hw⟩ := hw
  refine G_callO (pc := 10) (n := 0) (x := ⟨"java/lang/AbstractStringBuilder", "length", "()I"⟩) (owner := "java/lang/AbstractStringBuilder") (C := "java/lang/StringBuilder") (b := b2) (As := []) (rest := []) hC (m_J5_length hJ hw) (lw_O q582 q584 q583 q585 q586 q91 q587) q589 (rcv (C := RJ5) (T := TJ5) (N := 4) hC hb rfl) (by decide +kernel) (by decide) rfl rfl (st_c cat_e (Nat.le_of_ble_eq_true rfl)) dJ6_init_2_10 (kI fun x5 M4 hw => ?_)
  refine G_istore (pc := 13) (i := 4) (lw := [some (va_rf (some a0)), some (va_rf (some b2)), some (va_rf p2), some (va_rf x3), some (.int x5)]) hC dJ6_init_2_13 (Nat.le_of_ble_eq_true rfl) rfl ?_
  refine G_aload_n (pc := 15) (i := 1) hC dJ6_init_2_15 rfl rfl ?_
  obtain ⟨hb, hw⟩ := hw
  refine G_callU (pc := 16) (n := 0) (x := ⟨"java/lang/AbstractStringBuilder", "isLatin1", "()Z"⟩) (owner := "java/lang/AbstractStringBuilder") (C := "java/lang/StringBuilder") (b := b2) (As := []) (rest := []) hC (m_J4_isLatin1_s23 hJ hw) (lw_U q590 q466 q467 q465 q90 q468) rfl (rcv (C := RJ5) (T := TJ5) (N := 4) hC hb rfl) hdK_J4_isLatin1_s23.2 (by decide) rfl rfl (st_c cat_e (Nat.le_of_ble_eq_true rfl)) dJ6_init_2_16 (kI fun x7 M6 hw => ?_)
  refine G_if_eq (pc := 19) (tgt := 41) hC dJ6_init_2_19 (by decide) (fun hc => ?_) (fun hc => ?_)
  · replace hw := hw.1 hc
    refine G_gets (pc := 41) (v := .int (1 : Int32)) hC (hC.sK hJ).2.2.2.2.2.2.1 q503 (fun _ h => h) dJ6_init_2_41 ?_
    refine G_if_eq (pc := 44) (tgt := 79) hC dJ6_init_2_44 (by decide) (fun hc => ?_) (fun hc => ?_)
    · replace hw := hw.1 hc
      exact g_J6_init_2_79 hJ hC hQ hin  x3 x5 M6 hw
    · replace hw := hw.2 hc
      refine G_aload_n (pc := 47) (i := 1) hC dJ6_init_2_47 rfl rfl ?_
      exact hw.elim
  · replace hw := hw.2 hc
    refine G_aload_n (pc := 22) (i := 0) hC dJ6_init_2_22 rfl rfl ?_
    refine G_iconst (pc := 23) (v := 0) hC dJ6_init_2_23 (by decide) ?_
    refine G_putF (pc := 24) (ci := 24) (C := RJ6) (T := TJ6) (N := 4) (f := 1) tyJ6 hC rfl in_J6 tyJ6_ok nmJ6 (Nat.le_of_ble_eq_true rfl) q654 (fun _ h => h) rfl hin rfl rfl rfl dJ6_init_2_24 hw (fun M8 hw => ?_)
    refine G_aload_n (pc := 27) (i := 0) hC dJ6_init_2_27 rfl rfl ?_
    refine G_aload_n (pc := 28) (i := 3) hC dJ6_init_2_28 rfl rfl ?_
    refine G_iconst (pc := 29) (v := 0) hC dJ6_init_2_29 (by decide) ?_
    refine G_iload (pc := 30) (i := 4) hC dJ6_init_2_30 rfl ?_
    refine G_callS (pc := 32) (n := 3) (As := [va_rf x3, .int (0 : Int32), .int x5]) (rest := [va_rf (some a0)]) hC (m_J10_copyOfRange hJ hw) (lw_S q591 q592 q96 q593) hdK_J10_copyOfRange.2 (by decide) rfl rfl (st_c (cat_r cat_e) (Nat.le_of_ble_eq_true rfl)) dJ6_init_2_32 (kRf fun x10 M9 hw => ?_)
    refine G_putF (pc := 35) (ci := 24) (C := RJ6) (T := TJ6) (N := 4) (f := 0) tyJ6 hC rfl in_J6 tyJ6_ok nmJ6 (Nat.le_of_ble_eq_true rfl) q653 (fun _ h => h) rfl hin rfl (nR_a _ _) (fR_a _ _) dJ6_init_2_35 hw (fun M11 hw => ?_)
    refine G_goto (pc := 38) (tgt := 97) hC dJ6_init_2_38 (by decide) ?_
    refine G_loc (lv' := [some (va_rf (some a0)), some (va_rf (some b2)), some (va_rf p2), none, none]) ⟨Or.inr rfl, Or.inr rfl, Or.inr rfl, Or.inl rfl, Or.inl rfl, trivial⟩ ?_
    exact g_J6_init_2_97 hJ hC hQ hin   M11 hw
