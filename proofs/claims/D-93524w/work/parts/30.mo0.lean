/-! STAGE 1, printed by wip/D-93524w/genall.py: model, part 0 -/
set_option maxRecDepth 100000
def w_X3_init (g : gT) (F : Nat) (a0 : Nat) (M : hM) (Q : hM → Prop) : Prop :=
  nA M 0 (96 : Int32) (.inl (fun _ => 0)) fun q1 M2 => pV M2 (some a0) 2 1 (va_rf (some q1)) fun M3 => nA M3 0 (4 : Int32) (.inl (fun _ => 0)) fun q4 M5 => pV M5 (some a0) 2 2 (va_rf (some q4)) fun M6 => pV M6 (some a0) 2 4 (.int (1 : Int32)) fun M7 => nA M7 5 (50 : Int32) (.inl (fun _ => 0)) fun q8 M9 => pV M9 (some a0) 2 5 (va_rf (some q8)) fun M10 => nA M10 0 (8 : Int32) (.inl (fun _ => 0)) fun q11 M12 => pV M12 (some a0) 2 7 (va_rf (some q11)) fun M13 => nA M13 0 (8 : Int32) (.inl (fun _ => 0)) fun q14 M15 => pV M15 (some a0) 2 8 (va_rf (some q14)) fun M16 => nA M16 0 (192 : Int32) (.inl (fun _ => 0)) fun q17 M18 => pV M18 (some a0) 2 9 (va_rf (some q17)) fun M19 => nA M19 0 (96 : Int32) (.inl (fun _ => 0)) fun q20 M21 => pV M21 (some a0) 2 12 (va_rf (some q20)) fun M22 => nA M22 0 (4 : Int32) (.inl (fun _ => 0)) fun q23 M24 => pV M24 (some a0) 2 13 (va_rf (some q23)) fun M25 => nA M25 0 (2000 : Int32) (.inl (fun _ => 0)) fun q26 M27 => pV M27 (some a0) 2 15 (va_rf (some q26)) fun M28 => nA M28 0 (625 : Int32) (.inl (fun _ => 0)) fun q29 M30 => pV M30 (some a0) 2 19 (va_rf (some q29)) fun M31 => nA M31 0 (24 : Int32) (.inl (fun _ => 0)) fun q32 M33 => pV M33 (some a0) 2 20 (va_rf (some q32)) fun M34 => nA M34 0 (24 : Int32) (.inl (fun _ => 0)) fun q35 M36 => pV M36 (some a0) 2 21 (va_rf (some q35)) fun M37 => nA M37 0 (24 : Int32) (.inl (fun _ => 0)) fun q38 M39 => pV M39 (some a0) 2 23 (va_rf (some q38)) fun M40 => nA M40 0 (24 : Int32) (.inl (fun _ => 0)) fun q41 M42 => pV M42 (some a0) 2 24 (va_rf (some q41)) fun M43 => nA M43 0 (24 : Int32) (.inl (fun _ => 0)) fun q44 M45 => pV M45 (some a0) 2 26 (va_rf (some q44)) fun M46 => nA M46 0 (24 : Int32) (.inl (fun _ => 0)) fun q47 M48 => pV M48 (some a0) 2 28 (va_rf (some q47)) fun M49 => nA M49 0 (24 : Int32) (.inl (fun _ => 0)) fun q50 M51 => pV M51 (some a0) 2 30 (va_rf (some q50)) fun M52 => nA M52 0 (72 : Int32) (.inl (fun _ => 0)) fun q53 M54 => pV M54 (some a0) 2 32 (va_rf (some q53)) fun M55 => nA M55 0 (120 : Int32) (.inl (fun _ => 0)) fun q56 M57 => pV M57 (some a0) 2 34 (va_rf (some q56)) fun M58 => nA M58 3 (24 : Int32) (.inl (fun _ => 0)) fun q59 M60 => pV M60 (some a0) 2 36 (va_rf (some q59)) fun M61 => nA M61 3 (24 : Int32) (.inl (fun _ => 0)) fun q62 M63 => pV M63 (some a0) 2 37 (va_rf (some q62)) fun M64 => nA M64 0 (24 : Int32) (.inl (fun _ => 0)) fun q65 M66 => pV M66 (some a0) 2 39 (va_rf (some q65)) fun M67 => nA M67 0 (24 : Int32) (.inl (fun _ => 0)) fun q68 M69 => pV M69 (some a0) 2 41 (va_rf (some q68)) fun M70 => nA M70 0 (24 : Int32) (.inl (fun _ => 0)) fun q71 M72 => pV M72 (some a0) 2 43 (va_rf (some q71)) fun M73 => nA M73 0 (24 : Int32) (.inl (fun _ => 0)) fun q74 M75 => pV M75 (some a0) 2 45 (va_rf (some q74)) fun M76 => nA M76 0 (24 : Int32) (.inl (fun _ => 0)) fun q77 M78 => pV M78 (some a0) 2 46 (va_rf (some q77)) fun M79 => nA M79 0 (700 : Int32) (.inl (fun _ => 0)) fun q80 M81 => pV M81 (some a0) 2 47 (va_rf (some q80)) fun M82 => nA M82 0 (100 : Int32) (.inl (fun _ => 0)) fun q83 M84 => pV M84 (some a0) 2 49 (va_rf (some q83)) fun M85 => nA M85 0 (150 : Int32) (.inl (fun _ => 0)) fun q86 M87 => pV M87 (some a0) 2 52 (va_rf (some q86)) fun M88 => nA M88 0 (24 : Int32) (.inl (fun _ => 0)) fun q89 M90 => pV M90 (some a0) 2 54 (va_rf (some q89)) fun M91 => nA M91 0 (24 : Int32) (.inl (fun _ => 0)) fun q92 M93 => pV M93 (some a0) 2 55 (va_rf (some q92)) fun M94 => nA M94 0 (50 : Int32) (.inl (fun _ => 0)) fun q95 M96 => pV M96 (some a0) 2 57 (va_rf (some q95)) fun M97 => nA M97 0 (50 : Int32) (.inl (fun _ => 0)) fun q98 M99 => pV M99 (some a0) 2 60 (va_rf (some q98)) fun M100 => Q M100
theorem m_X3_init {l : Launch} {g : gT} {F : Nat} {a0 : Nat} {M : hM} {Q : hM → Prop} (hJ : JOK l g) (hw : w_X3_init g F a0 M Q) : MG l g yX3_init (ws_ yX3_init cX3_init 1 none) 1 20 [va_rf (some a0)] M (PU Q) := by
  refine MG_of hJ.2.1 (by decide) (cat_r cat_e) (Nat.le_of_ble_eq_true rfl) (fun k hl hg hin hQ hC => ?_)
  subst hl hg
  show GW k 1 M 0 [some (va_rf (some a0))] []
  refine G_aload_n (pc := 0) (i := 0) hC dX3_init_0 rfl rfl ?_
  refine G_objInit (pc := 1) hC q3373 q158 q159 rfl rfl (st_c cat_e (Nat.le_of_ble_eq_true rfl)) dX3_init_1 ?_
  refine G_aload_n (pc := 4) (i := 0) hC dX3_init_4 rfl rfl ?_
  refine G_bipush (pc := 5) (v := 96) hC dX3_init_5 (by decide) ?_
  refine G_newI (pc := 7) hC q1712 dX3_init_7 hw (fun q1 M2 hw => ?_)
  refine G_putF (pc := 9) (ci := 2) (C := RX3) (T := TX3) (N := 61) (f := 1) tyX3 hC rfl in_X3 tyX3_ok nmX3 (Nat.le_of_ble_eq_true rfl) q3375 (fun _ h => h) rfl hin rfl (nR_a _ _) (fR_a _ _) dX3_init_9 hw (fun M3 hw => ?_)
  refine G_aload_n (pc := 12) (i := 0) hC dX3_init_12 rfl rfl ?_
  refine G_iconst (pc := 13) (v := 4) hC dX3_init_13 (by decide) ?_
  refine G_newI (pc := 14) hC q1712 dX3_init_14 hw (fun q4 M5 hw => ?_)
  refine G_putF (pc := 16) (ci := 2) (C := RX3) (T := TX3) (N := 61) (f := 2) tyX3 hC rfl in_X3 tyX3_ok nmX3 (Nat.le_of_ble_eq_true rfl) q3376 (fun _ h => h) rfl hin rfl (nR_a _ _) (fR_a _ _) dX3_init_16 hw (fun M6 hw => ?_)
  refine G_aload_n (pc := 19) (i := 0) hC dX3_init_19 rfl rfl ?_
  refine G_iconst (pc := 20) (v := 1) hC dX3_init_20 (by decide) ?_
  refine G_put (pc := 21) (ci := 2) (C := RX3) (T := TX3) (N := 61) (f := 4) tyX3 hC rfl in_X3 tyX3_ok nmX3 (Nat.le_of_ble_eq_true rfl) q3378 (fun _ h => h) rfl rfl rfl dX3_init_21 hw (fun M7 hw => ?_)
  refine G_aload_n (pc := 24) (i := 0) hC dX3_init_24 rfl rfl ?_
  refine G_bipush (pc := 25) (v := 50) hC dX3_init_25 (by decide) ?_
  refine G_newC (pc := 27) hC q3558 dX3_init_27 hw (fun q8 M9 hw => ?_)
  refine G_putF (pc := 29) (ci := 2) (C := RX3) (T := TX3) (N := 61) (f := 5) tyX3 hC rfl in_X3 tyX3_ok nmX3 (Nat.le_of_ble_eq_true rfl) q3379 (fun _ h => h) rfl hin rfl (nR_a _ _) (fR_a _ _) dX3_init_29 hw (fun M10 hw => ?_)
  refine G_aload_n (pc := 32) (i := 0) hC dX3_init_32 rfl rfl ?_
  refine G_bipush (pc := 33) (v := 8) hC dX3_init_33 (by decide) ?_
  refine G_newI (pc := 35) hC q1712 dX3_init_35 hw (fun q11 M12 hw => ?_)
  refine G_putF (pc := 37) (ci := 2) (C := RX3) (T := TX3) (N := 61) (f := 7) tyX3 hC rfl in_X3 tyX3_ok nmX3 (Nat.le_of_ble_eq_true rfl) q3381 (fun _ h => h) rfl hin rfl (nR_a _ _) (fR_a _ _) dX3_init_37 hw (fun M13 hw => ?_)
  refine G_aload_n (pc := 40) (i := 0) hC dX3_init_40 rfl rfl ?_
  refine G_bipush (pc := 41) (v := 8) hC dX3_init_41 (by decide) ?_
  refine G_newI (pc := 43) hC q1712 dX3_init_43 hw (fun q14 M15 hw => ?_)
  refine G_putF (pc := 45) (ci := 2) (C := RX3) (T := TX3) (N := 61) (f := 8) tyX3 hC rfl in_X3 tyX3_ok nmX3 (Nat.le_of_ble_eq_true rfl) q3382 (fun _ h => h) rfl hin rfl (nR_a _ _) (fR_a _ _) dX3_init_45 hw (fun M16 hw => ?_)
  refine G_aload_n (pc := 48) (i := 0) hC dX3_init_48 rfl rfl ?_
  refine G_sipush (pc := 49) (v := 192) hC dX3_init_49 (by decide) ?_
  refine G_newI (pc := 52) hC q1712 dX3_init_52 hw (fun q17 M18 hw => ?_)
  refine G_putF (pc := 54) (ci := 2) (C := RX3) (T := TX3) (N := 61) (f := 9) tyX3 hC rfl in_X3 tyX3_ok nmX3 (Nat.le_of_ble_eq_true rfl) q3383 (fun _ h => h) rfl hin rfl (nR_a _ _) (fR_a _ _) dX3_init_54 hw (fun M19 hw => ?_)
  refine G_aload_n (pc := 57) (i := 0) hC dX3_init_57 rfl rfl ?_
  refine G_bipush (pc := 58) (v := 96) hC dX3_init_58 (by decide) ?_
  refine G_newI (pc := 60) hC q1712 dX3_init_60 hw (fun q20 M21 hw => ?_)
  refine G_putF (pc := 62) (ci := 2) (C := RX3) (T := TX3) (N := 61) (f := 12) tyX3 hC rfl in_X3 tyX3_ok nmX3 (Nat.le_of_ble_eq_true rfl) q3386 (fun _ h => h) rfl hin rfl (nR_a _ _) (fR_a _ _) dX3_init_62 hw (fun M22 hw => ?_)
  refine G_aload_n (pc := 65) (i := 0) hC dX3_init_65 rfl rfl ?_
  refine G_iconst (pc := 66) (v := 4) hC dX3_init_66 (by decide) ?_
  refine G_newI (pc := 67) hC q1712 dX3_init_67 hw (fun q23 M24 hw => ?_)
  refine G_putF (pc := 69) (ci := 2) (C := RX3) (T := TX3) (N := 61) (f := 13) tyX3 hC rfl in_X3 tyX3_ok nmX3 (Nat.le_of_ble_eq_true rfl) q3387 (fun _ h => h) rfl hin rfl (nR_a _ _) (fR_a _ _) dX3_init_69 hw (fun M25 hw => ?_)
  refine G_aload_n (pc := 72) (i := 0) hC dX3_init_72 rfl rfl ?_
  refine G_sipush (pc := 73) (v := 2000) hC dX3_init_73 (by decide) ?_
  refine G_newI (pc := 76) hC q1712 dX3_init_76 hw (fun q26 M27 hw => ?_)
  refine G_putF (pc := 78) (ci := 2) (C := RX3) (T := TX3) (N := 61) (f := 15) tyX3 hC rfl in_X3 tyX3_ok nmX3 (Nat.le_of_ble_eq_true rfl) q3389 (fun _ h => h) rfl hin rfl (nR_a _ _) (fR_a _ _) dX3_init_78 hw (fun M28 hw => ?_)
  refine G_aload_n (pc := 81) (i := 0) hC dX3_init_81 rfl rfl ?_
  refine G_sipush (pc := 82) (v := 625) hC dX3_init_82 (by decide) ?_
  refine G_newI (pc := 85) hC q1712 dX3_init_85 hw (fun q29 M30 hw => ?_)
  refine G_putF (pc := 87) (ci := 2) (C := RX3) (T := TX3) (N := 61) (f := 19) tyX3 hC rfl in_X3 tyX3_ok nmX3 (Nat.le_of_ble_eq_true rfl) q3393 (fun _ h => h) rfl hin rfl (nR_a _ _) (fR_a _ _) dX3_init_87 hw (fun M31 hw => ?_)
  refine G_aload_n (pc := 90) (i := 0) hC dX3_init_90 rfl rfl ?_
  refine G_bipush (pc := 91) (v := 24) hC dX3_init_91 (by decide) ?_
  refine G_newI (pc := 93) hC q1712 dX3_init_93 hw (fun q32 M33 hw => ?_)
  refine G_putF (pc := 95) (ci := 2) (C := RX3) (T := TX3) (N := 61) (f := 20) tyX3 hC rfl in_X3 tyX3_ok nmX3 (Nat.le_of_ble_eq_true rfl) q3394 (fun _ h => h) rfl hin rfl (nR_a _ _) (fR_a _ _) dX3_init_95 hw (fun M34 hw => ?_)
  refine G_aload_n (pc := 98) (i := 0) hC dX3_init_98 rfl rfl ?_
  refine G_bipush (pc := 99) (v := 24) hC dX3_init_99 (by decide) ?_
  refine G_newI (pc := 101) hC q1712 dX3_init_101 hw (fun q35 M36 hw => ?_)
  refine G_putF (pc := 103) (ci := 2) (C := RX3) (T := TX3) (N := 61) (f := 21) tyX3 hC rfl in_X3 tyX3_ok nmX3 (Nat.le_of_ble_eq_true rfl) q3395 (fun _ h => h) rfl hin rfl (nR_a _ _) (fR_a _ _) dX3_init_103 hw (fun M37 hw => ?_)
  refine G_aload_n (pc := 106) (i := 0) hC dX3_init_106 rfl rfl ?_
  refine G_bipush (pc := 107) (v := 24) hC dX3_init_107 (by decide) ?_
  refine G_newI (pc := 109) hC q1712 dX3_init_109 hw (fun q38 M39 hw => ?_)
  refine G_putF (pc := 111) (ci := 2) (C := RX3) (T := TX3) (N := 61) (f := 23) tyX3 hC rfl in_X3 tyX3_ok nmX3 (Nat.le_of_ble_eq_true rfl) q3397 (fun _ h => h) rfl hin rfl (nR_a _ _) (fR_a _ _) dX3_init_111 hw (fun M40 hw => ?_)
  refine G_aload_n (pc := 114) (i := 0) hC dX3_init_114 rfl rfl ?_
  refine G_bipush (pc := 115) (v := 24) hC dX3_init_115 (by decide) ?_
  refine G_newI (pc := 117) hC q1712 dX3_init_117 hw (fun q41 M42 hw => ?_)
  refine G_putF (pc := 119) (ci := 2) (C := RX3) (T := TX3) (N := 61) (f := 24) tyX3 hC rfl in_X3 tyX3_ok nmX3 (Nat.le_of_ble_eq_true rfl) q3398 (fun _ h => h) rfl hin rfl (nR_a _ _) (fR_a _ _) dX3_init_119 hw (fun M43 hw => ?_)
  refine G_aload_n (pc := 122) (i := 0) hC dX3_init_122 rfl rfl ?_
  refine G_bipush (pc := 123) (v := 24) hC dX3_init_123 (by decide) ?_
  refine G_newI (pc := 125) hC q1712 dX3_init_125 hw (fun q44 M45 hw => ?_)
  refine G_putF (pc := 127) (ci := 2) (C := RX3) (T := TX3) (N := 61) (f := 26) tyX3 hC rfl in_X3 tyX3_ok nmX3 (Nat.le_of_ble_eq_true rfl) q3400 (fun _ h => h) rfl hin rfl (nR_a _ _) (fR_a _ _) dX3_init_127 hw (fun M46 hw => ?_)
  refine G_aload_n (pc := 130) (i := 0) hC dX3_init_130 rfl rfl ?_
  refine G_bipush (pc := 131) (v := 24) hC dX3_init_131 (by decide) ?_
  refine G_newI (pc := 133) hC q1712 dX3_init_133 hw (fun q47 M48 hw => ?_)
  refine G_putF (pc := 135) (ci := 2) (C := RX3) (T := TX3) (N := 61) (f := 28) tyX3 hC rfl in_X3 tyX3_ok nmX3 (Nat.le_of_ble_eq_true rfl) q3402 (fun _ h => h) rfl hin rfl (nR_a _ _) (fR_a _ _) dX3_init_135 hw (fun M49 hw => ?_)
  refine G_aload_n (pc := 138) (i := 0) hC dX3_init_138 rfl rfl ?_
  refine G_bipush (pc := 139) (v := 24) hC dX3_init_139 (by decide) ?_
  refine G_newI (pc := 141) hC q1712 dX3_init_141 hw (fun q50 M51 hw => ?_)
  refine G_putF (pc := 143) (ci := 2) (C := RX3) (T := TX3) (N := 61) (f := 30) tyX3 hC rfl in_X3 tyX3_ok nmX3 (Nat.le_of_ble_eq_true rfl) q3404 (fun _ h => h) rfl hin rfl (nR_a _ _) (fR_a _ _) dX3_init_143 hw (fun M52 hw => ?_)
  refine G_aload_n (pc := 146) (i := 0) hC dX3_init_146 rfl rfl ?_
  refine G_bipush (pc := 147) (v := 72) hC dX3_init_147 (by decide) ?_
  refine G_newI (pc := 149) hC q1712 dX3_init_149 hw (fun q53 M54 hw => ?_)
  refine G_putF (pc := 151) (ci := 2) (C := RX3) (T := TX3) (N := 61) (f := 32) tyX3 hC rfl in_X3 tyX3_ok nmX3 (Nat.le_of_ble_eq_true rfl) q3406 (fun _ h => h) rfl hin rfl (nR_a _ _) (fR_a _ _) dX3_init_151 hw (fun M55 hw => ?_)
  refine G_aload_n (pc := 154) (i := 0) hC dX3_init_154 rfl rfl ?_
  refine G_bipush (pc := 155) (v := 120) hC dX3_init_155 (by decide) ?_
  refine G_newI (pc := 157) hC q1712 dX3_init_157 hw (fun q56 M57 hw => ?_)
  refine G_putF (pc := 159) (ci := 2) (C := RX3) (T := TX3) (N := 61) (f := 34) tyX3 hC rfl in_X3 tyX3_ok nmX3 (Nat.le_of_ble_eq_true rfl) q3408 (fun _ h => h) rfl hin rfl (nR_a _ _) (fR_a _ _) dX3_init_159 hw (fun M58 hw => ?_)
  refine G_aload_n (pc := 162) (i := 0) hC dX3_init_162 rfl rfl ?_
  refine G_bipush (pc := 163) (v := 24) hC dX3_init_163 (by decide) ?_
  refine G_newZ (pc := 165) hC q2639 dX3_init_165 hw (fun q59 M60 hw => ?_)
  refine G_putF (pc := 167) (ci := 2) (C := RX3) (T := TX3) (N := 61) (f := 36) tyX3 hC rfl in_X3 tyX3_ok nmX3 (Nat.le_of_ble_eq_true rfl) q3410 (fun _ h => h) rfl hin rfl (nR_a _ _) (fR_a _ _) dX3_init_167 hw (fun M61 hw => ?_)
  refine G_aload_n (pc := 170) (i := 0) hC dX3_init_170 rfl rfl ?_
  refine G_bipush (pc := 171) (v := 24) hC dX3_init_171 (by decide) ?_
  refine G_newZ (pc := 173) hC q2639 dX3_init_173 hw (fun q62 M63 hw => ?_)
  refine G_putF (pc := 175) (ci := 2) (C := RX3) (T := TX3) (N := 61) (f := 37) tyX3 hC rfl in_X3 tyX3_ok nmX3 (Nat.le_of_ble_eq_true rfl) q3411 (fun _ h => h) rfl hin rfl (nR_a _ _) (fR_a _ _) dX3_init_175 hw (fun M64 hw => ?_)
  refine G_aload_n (pc := 178) (i := 0) hC dX3_init_178 rfl rfl ?_
  refine G_bipush (pc := 179) (v := 24) hC dX3_init_179 (by decide) ?_
  refine G_newI (pc := 181) hC q1712 dX3_init_181 hw (fun q65 M66 hw => ?_)
  refine G_putF (pc := 183) (ci := 2) (C := RX3) (T := TX3) (N := 61) (f := 39) tyX3 hC rfl in_X3 tyX3_ok nmX3 (Nat.le_of_ble_eq_true rfl) q3413 (fun _ h => h) rfl hin rfl (nR_a _ _) (fR_a _ _) dX3_init_183 hw (fun M67 hw => ?_)
  refine G_aload_n (pc := 186) (i := 0) hC dX3_init_186 rfl rfl ?_
  refine G_bipush (pc := 187) (v := 24) hC dX3_init_187 (by decide) ?_
  refine G_newI (pc := 189) hC q1712 dX3_init_189 hw (fun q68 M69 hw => ?_)
  refine G_putF (pc := 191) (ci := 2) (C := RX3) (T := TX3) (N := 61) (f := 41) tyX3 hC rfl in_X3 tyX3_ok nmX3 (Nat.le_of_ble_eq_true rfl) q3415 (fun _ h => h) rfl hin rfl (nR_a _ _) (fR_a _ _) dX3_init_191 hw (fun M70 hw => ?_)
  refine G_aload_n (pc := 194) (i := 0) hC dX3_init_194 rfl rfl ?_
  refine G_bipush (pc := 195) (v := 24) hC dX3_init_195 (by decide) ?_
  refine G_newI (pc := 197) hC q1712 dX3_init_197 hw (fun q71 M72 hw => ?_)
  refine G_putF (pc := 199) (ci := 2) (C := RX3) (T := TX3) (N := 61) (f := 43) tyX3 hC rfl in_X3 tyX3_ok nmX3 (Nat.le_of_ble_eq_true rfl) q3417 (fun _ h => h) rfl hin rfl (nR_a _ _) (fR_a _ _) dX3_init_199 hw (fun M73 hw => ?_)
  refine G_aload_n (pc := 202) (i := 0) hC dX3_init_202 rfl rfl ?_
  refine G_bipush (pc := 203) (v := 24) hC dX3_init_203 (by decide) ?_
  refine G_newI (pc := 205) hC q1712 dX3_init_205 hw (fun q74 M75 hw => ?_)
  refine G_putF (pc := 207) (ci := 2) (C := RX3) (T := TX3) (N := 61) (f := 45) tyX3 hC rfl in_X3 tyX3_ok nmX3 (Nat.le_of_ble_eq_true rfl) q3419 (fun _ h => h) rfl hin rfl (nR_a _ _) (fR_a _ _) dX3_init_207 hw (fun M76 hw => ?_)
  refine G_aload_n (pc := 210) (i := 0) hC dX3_init_210 rfl rfl ?_
  refine G_bipush (pc := 211) (v := 24) hC dX3_init_211 (by decide) ?_
  refine G_newI (pc := 213) hC q1712 dX3_init_213 hw (fun q77 M78 hw => ?_)
  refine G_putF (pc := 215) (ci := 2) (C := RX3) (T := TX3) (N := 61) (f := 46) tyX3 hC rfl in_X3 tyX3_ok nmX3 (Nat.le_of_ble_eq_true rfl) q3420 (fun _ h => h) rfl hin rfl (nR_a _ _) (fR_a _ _) dX3_init_215 hw (fun M79 hw => ?_)
  refine G_aload_n (pc := 218) (i := 0) hC dX3_init_218 rfl rfl ?_
  refine G_sipush (pc := 219) (v := 700) hC dX3_init_219 (by decide) ?_
  refine G_newI (pc := 222) hC q1712 dX3_init_222 hw (fun q80 M81 hw => ?_)
  refine G_putF (pc := 224) (ci := 2) (C := RX3) (T := TX3) (N := 61) (f := 47) tyX3 hC rfl in_X3 tyX3_ok nmX3 (Nat.le_of_ble_eq_true rfl) q3421 (fun _ h => h) rfl hin rfl (nR_a _ _) (fR_a _ _) dX3_init_224 hw (fun M82 hw => ?_)
  refine G_aload_n (pc := 227) (i := 0) hC dX3_init_227 rfl rfl ?_
  refine G_bipush (pc := 228) (v := 100) hC dX3_init_228 (by decide) ?_
  refine G_newI (pc := 230) hC q1712 dX3_init_230 hw (fun q83 M84 hw => ?_)
  refine G_putF (pc := 232) (ci := 2) (C := RX3) (T := TX3) (N := 61) (f := 49) tyX3 hC rfl in_X3 tyX3_ok nmX3 (Nat.le_of_ble_eq_true rfl) q3423 (fun _ h => h) rfl hin rfl (nR_a _ _) (fR_a _ _) dX3_init_232 hw (fun M85 hw => ?_)
  refine G_aload_n (pc := 235) (i := 0) hC dX3_init_235 rfl rfl ?_
  refine G_sipush (pc := 236) (v := 150) hC dX3_init_236 (by decide) ?_
  refine G_newI (pc := 239) hC q1712 dX3_init_239 hw (fun q86 M87 hw => ?_)
  refine G_putF (pc := 241) (ci := 2) (C := RX3) (T := TX3) (N := 61) (f := 52) tyX3 hC rfl in_X3 tyX3_ok nmX3 (Nat.le_of_ble_eq_true rfl) q3426 (fun _ h => h) rfl hin rfl (nR_a _ _) (fR_a _ _) dX3_init_241 hw (fun M88 hw => ?_)
  refine G_aload_n (pc := 244) (i := 0) hC dX3_init_244 rfl rfl ?_
  refine G_bipush (pc := 245) (v := 24) hC dX3_init_245 (by decide) ?_
  refine G_newI (pc := 247) hC q1712 dX3_init_247 hw (fun q89 M90 hw => ?_)
  refine G_putF (pc := 249) (ci := 2) (C := RX3) (T := TX3) (N := 61) (f := 54) tyX3 hC rfl in_X3 tyX3_ok nmX3 (Nat.le_of_ble_eq_true rfl) q3428 (fun _ h => h) rfl hin rfl (nR_a _ _) (fR_a _ _) dX3_init_249 hw (fun M91 hw => ?_)
  refine G_aload_n (pc := 252) (i := 0) hC dX3_init_252 rfl rfl ?_
  refine G_bipush (pc := 253) (v := 24) hC dX3_init_253 (by decide) ?_
  refine G_newI (pc := 255) hC q1712 dX3_init_255 hw (fun q92 M93 hw => ?_)
  refine G_putF (pc := 257) (ci := 2) (C := RX3) (T := TX3) (N := 61) (f := 55) tyX3 hC rfl in_X3 tyX3_ok nmX3 (Nat.le_of_ble_eq_true rfl) q3429 (fun _ h => h) rfl hin rfl (nR_a _ _) (fR_a _ _) dX3_init_257 hw (fun M94 hw => ?_)
  refine G_aload_n (pc := 260) (i := 0) hC dX3_init_260 rfl rfl ?_
  refine G_bipush (pc := 261) (v := 50) hC dX3_init_261 (by decide) ?_
  refine G_newI (pc := 263) hC q1712 dX3_init_263 hw (fun q95 M96 hw => ?_)
  refine G_putF (pc := 265) (ci := 2) (C := RX3) (T := TX3) (N := 61) (f := 57) tyX3 hC rfl in_X3 tyX3_ok nmX3 (Nat.le_of_ble_eq_true rfl) q3431 (fun _ h => h) rfl hin rfl (nR_a _ _) (fR_a _ _) dX3_init_265 hw (fun M97 hw => ?_)
  refine G_aload_n (pc := 268) (i := 0) hC dX3_init_268 rfl rfl ?_
  refine G_bipush (pc := 269) (v := 50) hC dX3_init_269 (by decide) ?_
  refine G_newI (pc := 271) hC q1712 dX3_init_271 hw (fun q98 M99 hw => ?_)
  refine G_putF (pc := 273) (ci := 2) (C := RX3) (T := TX3) (N := 61) (f := 60) tyX3 hC rfl in_X3 tyX3_ok nmX3 (Nat.le_of_ble_eq_true rfl) q3434 (fun _ h => h) rfl hin rfl (nR_a _ _) (fR_a _ _) dX3_init_273 hw (fun M100 hw => ?_)
  exact G_ret (pc := 276) hC hQ dX3_init_276 hw
def w_X3_thrown (g : gT) (F : Nat) (a0 : Nat) (M : hM) (Q : Int32 → hM → Prop) : Prop :=
  gI M (some a0) 2 0 fun x1 => Q x1 M
theorem m_X3_thrown {l : Launch} {g : gT} {F : Nat} {a0 : Nat} {M : hM} {Q : Int32 → hM → Prop} (hJ : JOK l g) (hw : w_X3_thrown g F a0 M Q) : MG l g yX3_thrown (ws_ yX3_thrown cX3_thrown 1 (some .int)) 1 12 [va_rf (some a0)] M (PI Q) := by
  refine MG_of hJ.2.1 (by decide) (cat_r cat_e) (Nat.le_of_ble_eq_true rfl) (fun k hl hg hin hQ hC => ?_)
  subst hl hg
  show GW k 1 M 0 [some (va_rf (some a0))] []
  refine G_aload_n (pc := 0) (i := 0) hC dX3_thrown_0 rfl rfl ?_
  refine G_getI (pc := 1) (ci := 2) (C := RX3) (T := TX3) (N := 61) (f := 0) hC rfl in_X3 (Nat.le_of_ble_eq_true rfl) q3374 (fun _ h => h) dX3_thrown_1 hw (fun x1 hw => ?_)
  exact G_iret (pc := 4) hC rfl hQ dX3_thrown_4 hw
def w_X3_in_15 (g : gT) (F : Nat) (p0 : Int32) (p1 : Int32) (p2 : Int32) (Q : Int32 → hM → Prop) (s0 : Int32) (M : hM) : Prop :=
  ((s0 = 0 ∨ s0 = 1) ∧ Q s0 M)
def w_X3_in_14 (g : gT) (F : Nat) (p0 : Int32) (p1 : Int32) (p2 : Int32) (Q : Int32 → hM → Prop) (M : hM) : Prop :=
  w_X3_in_15 g F p0 p1 p2 Q (0 : Int32) M
def w_X3_in (g : gT) (F : Nat) (p0 : Int32) (p1 : Int32) (p2 : Int32) (M : hM) (Q : Int32 → hM → Prop) : Prop :=
  ((p0 < p1 → w_X3_in_14 g F p0 p1 p2 Q M) ∧ (¬ (p0 < p1) → ((p2 < p0 → w_X3_in_14 g F p0 p1 p2 Q M) ∧ (¬ (p2 < p0) → w_X3_in_15 g F p0 p1 p2 Q (1 : Int32) M))))
theorem g_X3_in_15 {k : kT} {F : Nat} {p0 : Int32} {p1 : Int32} {p2 : Int32} {Q : Int32 → hM → Prop} (hJ : JOK (kl k) (kg k)) (hC : CX k 3 cX3_in RX3 (some .boolean) 1 12) (hQ : isQ k (PI Q)) (hin : (kt k).name = "in") : ∀ (s0 : Int32) (M : hM), w_X3_in_15 (kg k) F p0 p1 p2 Q s0 M → GW k 3 M 15 [some (.int p0), some (.int p1), some (.int p2)] [.int s0] := by
  intro s0 M hw
  obtain ⟨hz, hw⟩ := hw
  exact G_iret (pc := 15) hC (nz_n hz) hQ dX3_in_15 hw
theorem g_X3_in_14 {k : kT} {F : Nat} {p0 : Int32} {p1 : Int32} {p2 : Int32} {Q : Int32 → hM → Prop} (hJ : JOK (kl k) (kg k)) (hC : CX k 3 cX3_in RX3 (some .boolean) 1 12) (hQ : isQ k (PI Q)) (hin : (kt k).name = "in") : ∀  (M : hM), w_X3_in_14 (kg k) F p0 p1 p2 Q  M → GW k 3 M 14 [some (.int p0), some (.int p1), some (.int p2)] [] := by
  intro  M hw
  refine G_iconst (pc := 14) (v := 0) hC dX3_in_14 (by decide) ?_
  exact g_X3_in_15 hJ hC hQ hin  (0 : Int32) M hw
theorem m_X3_in {l : Launch} {g : gT} {F : Nat} {p0 : Int32} {p1 : Int32} {p2 : Int32} {M : hM} {Q : Int32 → hM → Prop} (hJ : JOK l g) (hw : w_X3_in g F p0 p1 p2 M Q) : MG l g yX3_in (ws_ yX3_in cX3_in 3 (some .boolean)) 1 12 [.int p0, .int p1, .int p2] M (PI Q) := by
  refine MG_of hJ.2.1 (by decide) (cat_i (cat_i (cat_i cat_e))) (Nat.le_of_ble_eq_true rfl) (fun k hl hg hin hQ hC => ?_)
  subst hl hg
  show GW k 3 M 0 [some (.int p0), some (.int p1), some (.int p2)] []
  refine G_iload_n (pc := 0) (i := 0) hC dX3_in_0 rfl rfl ?_
  refine G_iload_n (pc := 1) (i := 1) hC dX3_in_1 rfl rfl ?_
  refine G_icmp_lt (pc := 2) (tgt := 14) hC dX3_in_2 (by decide) (fun hc => ?_) (fun hc => ?_)
  · replace hw := hw.1 hc
    exact g_X3_in_14 hJ hC hQ hin   M hw
  · replace hw := hw.2 hc
    refine G_iload_n (pc := 5) (i := 0) hC dX3_in_5 rfl rfl ?_
    refine G_iload_n (pc := 6) (i := 2) hC dX3_in_6 rfl rfl ?_
    refine G_icmp_gt (pc := 7) (tgt := 14) hC dX3_in_7 (by decide) (fun hc => ?_) (fun hc => ?_)
    · replace hw := hw.1 hc
      exact g_X3_in_14 hJ hC hQ hin   M hw
    · replace hw := hw.2 hc
      refine G_iconst (pc := 10) (v := 1) hC dX3_in_10 (by decide) ?_
      refine G_goto (pc := 11) (tgt := 15) hC dX3_in_11 (by decide) ?_
      exact g_X3_in_15 hJ hC hQ hin  (1 : Int32) M hw
theorem hd_X3_in : yX3_in.cls = "MergeWorkbenchModel" ∧ yX3_in.cls ≠ "java/lang/invoke/MethodHandle" ∧ yX3_in.cls ≠ "java/lang/invoke/VarHandle" ∧ (parseMethodDescriptor yX3_in.desc).map (fun d => d.parameters.length) = some 3 := by decide +kernel
def w_X3_isRegister (g : gT) (F : Nat) (p0 : Int32) (M : hM) (Q : Int32 → hM → Prop) : Prop :=
  w_X3_in g F p0 (0 : Int32) (3 : Int32) M (fun x2 M1 => ((x2 = 0 ∨ x2 = 1) ∧ Q x2 M1))
theorem m_X3_isRegister {l : Launch} {g : gT} {F : Nat} {p0 : Int32} {M : hM} {Q : Int32 → hM → Prop} (hJ : JOK l g) (hw : w_X3_isRegister g F p0 M Q) : MG l g yX3_isRegister (ws_ yX3_isRegister cX3_isRegister 1 (some .boolean)) 2 34 [.int p0] M (PI Q) := by
  refine MG_of hJ.2.1 (by decide) (cat_i cat_e) (Nat.le_of_ble_eq_true rfl) (fun k hl hg hin hQ hC => ?_)
  subst hl hg
  show GW k 1 M 0 [some (.int p0)] []
  refine G_iload_n (pc := 0) (i := 0) hC dX3_isRegister_0 rfl rfl ?_
  refine G_iconst (pc := 1) (v := 0) hC dX3_isRegister_1 (by decide) ?_
  refine G_iconst (pc := 2) (v := 3) hC dX3_isRegister_2 (by decide) ?_
  refine G_callS (pc := 3) (n := 3) (As := [.int p0, .int (0 : Int32), .int (3 : Int32)]) (rest := []) hC (m_X3_in hJ hw) (lw_S q3570 q3571 q108 q3572) hd_X3_in.2 (by decide) rfl rfl (st_c cat_e (Nat.le_of_ble_eq_true rfl)) dX3_isRegister_3 (kI fun x2 M1 hw => ?_)
  obtain ⟨hz, hw⟩ := hw
  exact G_iret (pc := 6) hC (nz_n hz) hQ dX3_isRegister_6 hw
def w_X3_fails (g : gT) (F : Nat) (a0 : Nat) (p1 : Int32) (M : hM) (Q : Int32 → hM → Prop) : Prop :=
  pV M (some a0) 2 0 (.int p1) fun M1 => Q (0 : Int32) M1
theorem m_X3_fails {l : Launch} {g : gT} {F : Nat} {a0 : Nat} {p1 : Int32} {M : hM} {Q : Int32 → hM → Prop} (hJ : JOK l g) (hw : w_X3_fails g F a0 p1 M Q) : MG l g yX3_fails (ws_ yX3_fails cX3_fails 2 (some .int)) 1 12 [va_rf (some a0), .int p1] M (PI Q) := by
  refine MG_of hJ.2.1 (by decide) (cat_r (cat_i cat_e)) (Nat.le_of_ble_eq_true rfl) (fun k hl hg hin hQ hC => ?_)
  subst hl hg
  show GW k 2 M 0 [some (va_rf (some a0)), some (.int p1)] []
  refine G_aload_n (pc := 0) (i := 0) hC dX3_fails_0 rfl rfl ?_
  refine G_iload_n (pc := 1) (i := 1) hC dX3_fails_1 rfl rfl ?_
  refine G_put (pc := 2) (ci := 2) (C := RX3) (T := TX3) (N := 61) (f := 0) tyX3 hC rfl in_X3 tyX3_ok nmX3 (Nat.le_of_ble_eq_true rfl) q3374 (fun _ h => h) rfl rfl rfl dX3_fails_2 hw (fun M1 hw => ?_)
  refine G_iconst (pc := 5) (v := 0) hC dX3_fails_5 (by decide) ?_
  exact G_iret (pc := 6) hC rfl hQ dX3_fails_6 hw
def w_X3_remembers_118 (g : gT) (F : Nat) (a0 : Nat) (p1 : Int32) (Q : hM → Prop) : Nat → Int32 → hM → Prop
  | 0, _, _ => False
  | n + 1, v2, M => (((24 : Int32) ≤ v2 → gI M (some a0) 2 10 fun x1 => pV M (some a0) 2 10 (.int (x1 + (1 : Int32))) fun M2 => Q M2) ∧ (¬ ((24 : Int32) ≤ v2) → gF M (some a0) 2 9 fun x3 => gI M (some a0) 2 10 fun x4 => gF M (some a0) 2 1 fun x5 => aI M x5 0 (((24 : Int32) * p1) + v2) fun x6 => sI M x3 0 (((24 : Int32) * x4) + v2) x6 fun M7 => w_X3_remembers_118 g F a0 p1 Q n (v2 + (1 : Int32)) M7))
def w_X3_remembers_91 (g : gT) (F : Nat) (a0 : Nat) (p1 : Int32) (Q : hM → Prop) (M : hM) : Prop :=
  gF M (some a0) 2 7 fun x1 => gI M (some a0) 2 10 fun x2 => sI M x1 0 x2 p1 fun M3 => gF M3 (some a0) 2 8 fun x4 => gI M3 (some a0) 2 10 fun x5 => gF M3 (some a0) 2 2 fun x6 => aI M3 x6 0 p1 fun x7 => sI M3 x4 0 x5 x7 fun M8 => w_X3_remembers_118 g F a0 p1 Q F (0 : Int32) M8
def w_X3_remembers_53 (g : gT) (F : Nat) (a0 : Nat) (p1 : Int32) (Q : hM → Prop) : Nat → Int32 → hM → Prop
  | 0, _, _ => False
  | n + 1, v2, M => (((168 : Int32) ≤ v2 → gI M (some a0) 2 10 fun x1 => pV M (some a0) 2 10 (.int (x1 - (1 : Int32))) fun M2 => w_X3_remembers_91 g F a0 p1 Q M2) ∧ (¬ ((168 : Int32) ≤ v2) → gF M (some a0) 2 9 fun x3 => gF M (some a0) 2 9 fun x4 => aI M x4 0 (v2 + (24 : Int32)) fun x5 => sI M x3 0 v2 x5 fun M6 => w_X3_remembers_53 g F a0 p1 Q n (v2 + (1 : Int32)) M6))
def w_X3_remembers_11 (g : gT) (F : Nat) (a0 : Nat) (p1 : Int32) (Q : hM → Prop) : Nat → Int32 → hM → Prop
  | 0, _, _ => False
  | n + 1, v2, M => (((7 : Int32) ≤ v2 → w_X3_remembers_53 g F a0 p1 Q F (0 : Int32) M) ∧ (¬ ((7 : Int32) ≤ v2) → gF M (some a0) 2 7 fun x1 => gF M (some a0) 2 7 fun x2 => aI M x2 0 (v2 + (1 : Int32)) fun x3 => sI M x1 0 v2 x3 fun M4 => gF M4 (some a0) 2 8 fun x5 => gF M4 (some a0) 2 8 fun x6 => aI M4 x6 0 (v2 + (1 : Int32)) fun x7 => sI M4 x5 0 v2 x7 fun M8 => w_X3_remembers_11 g F a0 p1 Q n (v2 + (1 : Int32)) M8))
def w_X3_remembers (g : gT) (F : Nat) (a0 : Nat) (p1 : Int32) (M : hM) (Q : hM → Prop) : Prop :=
  gI M (some a0) 2 10 fun x1 => ((¬ x1 = (8 : Int32) → w_X3_remembers_91 g F a0 p1 Q M) ∧ (x1 = (8 : Int32) → w_X3_remembers_11 g F a0 p1 Q F (0 : Int32) M))
theorem g_X3_remembers_118 {k : kT} {F : Nat} {a0 : Nat} {p1 : Int32} {Q : hM → Prop} (hJ : JOK (kl k) (kg k)) (hC : CX k 3 cX3_remembers RX3 none 1 12) (hQ : isQ k (PU Q)) (hin : (kt k).name = "remembers") : ∀ (n : Nat) (v2 : Int32) (M : hM), w_X3_remembers_118 (kg k) F a0 p1 Q n v2 M → GW k 3 M 118 [some (va_rf (some a0)), some (.int p1), some (.int v2)] [] := by
  intro n
  induction n with
  | zero =>
    intro v2 M hw
    exact hw.elim
  | succ n ih =>
    intro v2 M hw
    refine G_iload_n (pc := 118) (i := 2) hC dX3_remembers_118 rfl rfl ?_
    refine G_bipush (pc := 119) (v := 24) hC dX3_remembers_119 (by decide) ?_
    refine G_icmp_ge (pc := 121) (tgt := 155) hC dX3_remembers_121 (by decide) (fun hc => ?_) (fun hc => ?_)
    · replace hw := hw.1 hc
      refine G_aload_n (pc := 155) (i := 0) hC dX3_remembers_155 rfl rfl ?_
      refine G_dup (pc := 156) hC dX3_remembers_156 (rf_cat _) ?_
      refine G_getI (pc := 157) (ci := 2) (C := RX3) (T := TX3) (N := 61) (f := 10) hC rfl in_X3 (Nat.le_of_ble_eq_true rfl) q3384 (fun _ h => h) dX3_remembers_157 hw (fun x1 hw => ?_)
      refine G_iconst (pc := 160) (v := 1) hC dX3_remembers_160 (by decide) ?_
      refine G_iadd (pc := 161) hC dX3_remembers_161 ?_
      refine G_put (pc := 162) (ci := 2) (C := RX3) (T := TX3) (N := 61) (f := 10) tyX3 hC rfl in_X3 tyX3_ok nmX3 (Nat.le_of_ble_eq_true rfl) q3384 (fun _ h => h) rfl rfl rfl dX3_remembers_162 hw (fun M2 hw => ?_)
      exact G_ret (pc := 165) hC hQ dX3_remembers_165 hw
    · replace hw := hw.2 hc
      refine G_aload_n (pc := 124) (i := 0) hC dX3_remembers_124 rfl rfl ?_
      refine G_getF (pc := 125) (ci := 2) (C := RX3) (T := TX3) (N := 61) (f := 9) hC rfl in_X3 (Nat.le_of_ble_eq_true rfl) q3383 (fun _ h => h) dX3_remembers_125 hw (fun x3 hw => ?_)
      refine G_bipush (pc := 128) (v := 24) hC dX3_remembers_128 (by decide) ?_
      refine G_aload_n (pc := 130) (i := 0) hC dX3_remembers_130 rfl rfl ?_
      refine G_getI (pc := 131) (ci := 2) (C := RX3) (T := TX3) (N := 61) (f := 10) hC rfl in_X3 (Nat.le_of_ble_eq_true rfl) q3384 (fun _ h => h) dX3_remembers_131 hw (fun x4 hw => ?_)
      refine G_imul (pc := 134) hC dX3_remembers_134 ?_
      refine G_iload_n (pc := 135) (i := 2) hC dX3_remembers_135 rfl rfl ?_
      refine G_iadd (pc := 136) hC dX3_remembers_136 ?_
      refine G_aload_n (pc := 137) (i := 0) hC dX3_remembers_137 rfl rfl ?_
      refine G_getF (pc := 138) (ci := 2) (C := RX3) (T := TX3) (N := 61) (f := 1) hC rfl in_X3 (Nat.le_of_ble_eq_true rfl) q3375 (fun _ h => h) dX3_remembers_138 hw (fun x5 hw => ?_)
      refine G_bipush (pc := 141) (v := 24) hC dX3_remembers_141 (by decide) ?_
      refine G_iload_n (pc := 143) (i := 1) hC dX3_remembers_143 rfl rfl ?_
      refine G_imul (pc := 144) hC dX3_remembers_144 ?_
      refine G_iload_n (pc := 145) (i := 2) hC dX3_remembers_145 rfl rfl ?_
      refine G_iadd (pc := 146) hC dX3_remembers_146 ?_
      refine G_iald (pc := 147) hC dX3_remembers_147 hw (fun x6 hw => ?_)
      refine G_iast (pc := 148) hC dX3_remembers_148 hw (fun M7 hw => ?_)
      refine G_iinc (pc := 149) (i := 2) (v := (v2 + (1 : Int32))) (lw := [some (va_rf (some a0)), some (.int p1), some (.int (v2 + (1 : Int32)))]) hC dX3_remembers_149 rfl (Nat.le_of_ble_eq_true rfl) rfl rfl ?_
      refine G_goto (pc := 152) (tgt := 118) hC dX3_remembers_152 (by decide) ?_
      exact ih (v2 + (1 : Int32)) M7 hw
theorem g_X3_remembers_91 {k : kT} {F : Nat} {a0 : Nat} {p1 : Int32} {Q : hM → Prop} (hJ : JOK (kl k) (kg k)) (hC : CX k 3 cX3_remembers RX3 none 1 12) (hQ : isQ k (PU Q)) (hin : (kt k).name = "remembers") : ∀  (M : hM), w_X3_remembers_91 (kg k) F a0 p1 Q  M → GW k 3 M 91 [some (va_rf (some a0)), some (.int p1), none] [] := by
  intro  M hw
  refine G_aload_n (pc := 91) (i := 0) hC dX3_remembers_91 rfl rfl ?_
  refine G_getF (pc := 92) (ci := 2) (C := RX3) (T := TX3) (N := 61) (f := 7) hC rfl in_X3 (Nat.le_of_ble_eq_true rfl) q3381 (fun _ h => h) dX3_remembers_92 hw (fun x1 hw => ?_)
  refine G_aload_n (pc := 95) (i := 0) hC dX3_remembers_95 rfl rfl ?_
  refine G_getI (pc := 96) (ci := 2) (C := RX3) (T := TX3) (N := 61) (f := 10) hC rfl in_X3 (Nat.le_of_ble_eq_true rfl) q3384 (fun _ h => h) dX3_remembers_96 hw (fun x2 hw => ?_)
  refine G_iload_n (pc := 99) (i := 1) hC dX3_remembers_99 rfl rfl ?_
  refine G_iast (pc := 100) hC dX3_remembers_100 hw (fun M3 hw => ?_)
  refine G_aload_n (pc := 101) (i := 0) hC dX3_remembers_101 rfl rfl ?_
  refine G_getF (pc := 102) (ci := 2) (C := RX3) (T := TX3) (N := 61) (f := 8) hC rfl in_X3 (Nat.le_of_ble_eq_true rfl) q3382 (fun _ h => h) dX3_remembers_102 hw (fun x4 hw => ?_)
  refine G_aload_n (pc := 105) (i := 0) hC dX3_remembers_105 rfl rfl ?_
  refine G_getI (pc := 106) (ci := 2) (C := RX3) (T := TX3) (N := 61) (f := 10) hC rfl in_X3 (Nat.le_of_ble_eq_true rfl) q3384 (fun _ h => h) dX3_remembers_106 hw (fun x5 hw => ?_)
  refine G_aload_n (pc := 109) (i := 0) hC dX3_remembers_109 rfl rfl ?_
  refine G_getF (pc := 110) (ci := 2) (C := RX3) (T := TX3) (N := 61) (f := 2) hC rfl in_X3 (Nat.le_of_ble_eq_true rfl) q3376 (fun _ h => h) dX3_remembers_110 hw (fun x6 hw => ?_)
  refine G_iload_n (pc := 113) (i := 1) hC dX3_remembers_113 rfl rfl ?_
  refine G_iald (pc := 114) hC dX3_remembers_114 hw (fun x7 hw => ?_)
  refine G_iast (pc := 115) hC dX3_remembers_115 hw (fun M8 hw => ?_)
  refine G_iconst (pc := 116) (v := 0) hC dX3_remembers_116 (by decide) ?_
  refine G_istore_n (pc := 117) (i := 2) (lw := [some (va_rf (some a0)), some (.int p1), some (.int (0 : Int32))]) hC dX3_remembers_117 rfl (Nat.le_of_ble_eq_true rfl) rfl ?_
  exact g_X3_remembers_118 hJ hC hQ hin _ (0 : Int32) M8 hw
theorem g_X3_remembers_53 {k : kT} {F : Nat} {a0 : Nat} {p1 : Int32} {Q : hM → Prop} (hJ : JOK (kl k) (kg k)) (hC : CX k 3 cX3_remembers RX3 none 1 12) (hQ : isQ k (PU Q)) (hin : (kt k).name = "remembers") : ∀ (n : Nat) (v2 : Int32) (M : hM), w_X3_remembers_53 (kg k) F a0 p1 Q n v2 M → GW k 3 M 53 [some (va_rf (some a0)), some (.int p1), some (.int v2)] [] := by
  intro n
  induction n with
  | zero =>
    intro v2 M hw
    exact hw.elim
  | succ n ih =>
    intro v2 M hw
    refine G_iload_n (pc := 53) (i := 2) hC dX3_remembers_53 rfl rfl ?_
    refine G_sipush (pc := 54) (v := 168) hC dX3_remembers_54 (by decide) ?_
    refine G_icmp_ge (pc := 57) (tgt := 81) hC dX3_remembers_57 (by decide) (fun hc => ?_) (fun hc => ?_)
    · replace hw := hw.1 hc
      refine G_aload_n (pc := 81) (i := 0) hC dX3_remembers_81 rfl rfl ?_
      refine G_dup (pc := 82) hC dX3_remembers_82 (rf_cat _) ?_
      refine G_getI (pc := 83) (ci := 2) (C := RX3) (T := TX3) (N := 61) (f := 10) hC rfl in_X3 (Nat.le_of_ble_eq_true rfl) q3384 (fun _ h => h) dX3_remembers_83 hw (fun x1 hw => ?_)
      refine G_iconst (pc := 86) (v := 1) hC dX3_remembers_86 (by decide) ?_
      refine G_isub (pc := 87) hC dX3_remembers_87 ?_
      refine G_put (pc := 88) (ci := 2) (C := RX3) (T := TX3) (N := 61) (f := 10) tyX3 hC rfl in_X3 tyX3_ok nmX3 (Nat.le_of_ble_eq_true rfl) q3384 (fun _ h => h) rfl rfl rfl dX3_remembers_88 hw (fun M2 hw => ?_)
      refine G_loc (lv' := [some (va_rf (some a0)), some (.int p1), none]) ⟨Or.inr rfl, Or.inr rfl, Or.inl rfl, trivial⟩ ?_
      exact g_X3_remembers_91 hJ hC hQ hin   M2 hw
    · replace hw := hw.2 hc
      refine G_aload_n (pc := 60) (i := 0) hC dX3_remembers_60 rfl rfl ?_
      refine G_getF (pc := 61) (ci := 2) (C := RX3) (T := TX3) (N := 61) (f := 9) hC rfl in_X3 (Nat.le_of_ble_eq_true rfl) q3383 (fun _ h => h) dX3_remembers_61 hw (fun x3 hw => ?_)
      refine G_iload_n (pc := 64) (i := 2) hC dX3_remembers_64 rfl rfl ?_
      refine G_aload_n (pc := 65) (i := 0) hC dX3_remembers_65 rfl rfl ?_
      refine G_getF (pc := 66) (ci := 2) (C := RX3) (T := TX3) (N := 61) (f := 9) hC rfl in_X3 (Nat.le_of_ble_eq_true rfl) q3383 (fun _ h => h) dX3_remembers_66 hw (fun x4 hw => ?_)
      refine G_iload_n (pc := 69) (i := 2) hC dX3_remembers_69 rfl rfl ?_
      refine G_bipush (pc := 70) (v := 24) hC dX3_remembers_70 (by decide) ?_
      refine G_iadd (pc := 72) hC dX3_remembers_72 ?_
      refine G_iald (pc := 73) hC dX3_remembers_73 hw (fun x5 hw => ?_)
      refine G_iast (pc := 74) hC dX3_remembers_74 hw (fun M6 hw => ?_)
      refine G_iinc (pc := 75) (i := 2) (v := (v2 + (1 : Int32))) (lw := [some (va_rf (some a0)), some (.int p1), some (.int (v2 + (1 : Int32)))]) hC dX3_remembers_75 rfl (Nat.le_of_ble_eq_true rfl) rfl rfl ?_
      refine G_goto (pc := 78) (tgt := 53) hC dX3_remembers_78 (by decide) ?_
      exact ih (v2 + (1 : Int32)) M6 hw
theorem g_X3_remembers_11 {k : kT} {F : Nat} {a0 : Nat} {p1 : Int32} {Q : hM → Prop} (hJ : JOK (kl k) (kg k)) (hC : CX k 3 cX3_remembers RX3 none 1 12) (hQ : isQ k (PU Q)) (hin : (kt k).name = "remembers") : ∀ (n : Nat) (v2 : Int32) (M : hM), w_X3_remembers_11 (kg k) F a0 p1 Q n v2 M → GW k 3 M 11 [some (va_rf (some a0)), some (.int p1), some (.int v2)] [] := by
  intro n
  induction n with
  | zero =>
    intro v2 M hw
    exact hw.elim
  | succ n ih =>
    intro v2 M hw
    refine G_iload_n (pc := 11) (i := 2) hC dX3_remembers_11 rfl rfl ?_
    refine G_bipush (pc := 12) (v := 7) hC dX3_remembers_12 (by decide) ?_
    refine G_icmp_ge (pc := 14) (tgt := 51) hC dX3_remembers_14 (by decide) (fun hc => ?_) (fun hc => ?_)
    · replace hw := hw.1 hc
      refine G_iconst (pc := 51) (v := 0) hC dX3_remembers_51 (by decide) ?_
      refine G_istore_n (pc := 52) (i := 2) (lw := [some (va_rf (some a0)), some (.int p1), some (.int (0 : Int32))]) hC dX3_remembers_52 rfl (Nat.le_of_ble_eq_true rfl) rfl ?_
      exact g_X3_remembers_53 hJ hC hQ hin _ (0 : Int32) M hw
    · replace hw := hw.2 hc
      refine G_aload_n (pc := 17) (i := 0) hC dX3_remembers_17 rfl rfl ?_
      refine G_getF (pc := 18) (ci := 2) (C := RX3) (T := TX3) (N := 61) (f := 7) hC rfl in_X3 (Nat.le_of_ble_eq_true rfl) q3381 (fun _ h => h) dX3_remembers_18 hw (fun x1 hw => ?_)
      refine G_iload_n (pc := 21) (i := 2) hC dX3_remembers_21 rfl rfl ?_
      refine G_aload_n (pc := 22) (i := 0) hC dX3_remembers_22 rfl rfl ?_
      refine G_getF (pc := 23) (ci := 2) (C := RX3) (T := TX3) (N := 61) (f := 7) hC rfl in_X3 (Nat.le_of_ble_eq_true rfl) q3381 (fun _ h => h) dX3_remembers_23 hw (fun x2 hw => ?_)
      refine G_iload_n (pc := 26) (i := 2) hC dX3_remembers_26 rfl rfl ?_
      refine G_iconst (pc := 27) (v := 1) hC dX3_remembers_27 (by decide) ?_
      refine G_iadd (pc := 28) hC dX3_remembers_28 ?_
      refine G_iald (pc := 29) hC dX3_remembers_29 hw (fun x3 hw => ?_)
      refine G_iast (pc := 30) hC dX3_remembers_30 hw (fun M4 hw => ?_)
      refine G_aload_n (pc := 31) (i := 0) hC dX3_remembers_31 rfl rfl ?_
      refine G_getF (pc := 32) (ci := 2) (C := RX3) (T := TX3) (N := 61) (f := 8) hC rfl in_X3 (Nat.le_of_ble_eq_true rfl) q3382 (fun _ h => h) dX3_remembers_32 hw (fun x5 hw => ?_)
      refine G_iload_n (pc := 35) (i := 2) hC dX3_remembers_35 rfl rfl ?_
      refine G_aload_n (pc := 36) (i := 0) hC dX3_remembers_36 rfl rfl ?_
      refine G_getF (pc := 37) (ci := 2) (C := RX3) (T := TX3) (N := 61) (f := 8) hC rfl in_X3 (Nat.le_of_ble_eq_true rfl) q3382 (fun _ h => h) dX3_remembers_37 hw (fun x6 hw => ?_)
      refine G_iload_n (pc := 40) (i := 2) hC dX3_remembers_40 rfl rfl ?_
      refine G_iconst (pc := 41) (v := 1) hC dX3_remembers_41 (by decide) ?_
      refine G_iadd (pc := 42) hC dX3_remembers_42 ?_
      refine G_iald (pc := 43) hC dX3_remembers_43 hw (fun x7 hw => ?_)
      refine G_iast (pc := 44) hC dX3_remembers_44 hw (fun M8 hw => ?_)
      refine G_iinc (pc := 45) (i := 2) (v := (v2 + (1 : Int32))) (lw := [some (va_rf (some a0)), some (.int p1), some (.int (v2 + (1 : Int32)))]) hC dX3_remembers_45 rfl (Nat.le_of_ble_eq_true rfl) rfl rfl ?_
      refine G_goto (pc := 48) (tgt := 11) hC dX3_remembers_48 (by decide) ?_
      exact ih (v2 + (1 : Int32)) M8 hw
theorem m_X3_remembers {l : Launch} {g : gT} {F : Nat} {a0 : Nat} {p1 : Int32} {M : hM} {Q : hM → Prop} (hJ : JOK l g) (hw : w_X3_remembers g F a0 p1 M Q) : MG l g yX3_remembers (ws_ yX3_remembers cX3_remembers 3 none) 1 12 [va_rf (some a0), .int p1] M (PU Q) := by
  refine MG_of hJ.2.1 (by decide) (cat_r (cat_i cat_e)) (Nat.le_of_ble_eq_true rfl) (fun k hl hg hin hQ hC => ?_)
  subst hl hg
  show GW k 3 M 0 [some (va_rf (some a0)), some (.int p1), none] []
  refine G_aload_n (pc := 0) (i := 0) hC dX3_remembers_0 rfl rfl ?_
  refine G_getI (pc := 1) (ci := 2) (C := RX3) (T := TX3) (N := 61) (f := 10) hC rfl in_X3 (Nat.le_of_ble_eq_true rfl) q3384 (fun _ h => h) dX3_remembers_1 hw (fun x1 hw => ?_)
  refine G_bipush (pc := 4) (v := 8) hC dX3_remembers_4 (by decide) ?_
  refine G_icmp_ne (pc := 6) (tgt := 91) hC dX3_remembers_6 (by decide) (fun hc => ?_) (fun hc => ?_)
  · replace hw := hw.1 hc
    exact g_X3_remembers_91 hJ hC hQ hin   M hw
  · replace hw := hw.2 hc
    refine G_iconst (pc := 9) (v := 0) hC dX3_remembers_9 (by decide) ?_
    refine G_istore_n (pc := 10) (i := 2) (lw := [some (va_rf (some a0)), some (.int p1), some (.int (0 : Int32))]) hC dX3_remembers_10 rfl (Nat.le_of_ble_eq_true rfl) rfl ?_
    exact g_X3_remembers_11 hJ hC hQ hin _ (0 : Int32) M hw
def w_X3_done (g : gT) (F : Nat) (a0 : Nat) (p1 : Int32) (M : hM) (Q : Int32 → hM → Prop) : Prop :=
  pV M (some a0) 2 0 (.int (0 : Int32)) fun M1 => Q p1 M1
theorem m_X3_done {l : Launch} {g : gT} {F : Nat} {a0 : Nat} {p1 : Int32} {M : hM} {Q : Int32 → hM → Prop} (hJ : JOK l g) (hw : w_X3_done g F a0 p1 M Q) : MG l g yX3_done (ws_ yX3_done cX3_done 2 (some .int)) 1 12 [va_rf (some a0), .int p1] M (PI Q) := by
  refine MG_of hJ.2.1 (by decide) (cat_r (cat_i cat_e)) (Nat.le_of_ble_eq_true rfl) (fun k hl hg hin hQ hC => ?_)
  subst hl hg
  show GW k 2 M 0 [some (va_rf (some a0)), some (.int p1)] []
  refine G_aload_n (pc := 0) (i := 0) hC dX3_done_0 rfl rfl ?_
  refine G_iconst (pc := 1) (v := 0) hC dX3_done_1 (by decide) ?_
  refine G_put (pc := 2) (ci := 2) (C := RX3) (T := TX3) (N := 61) (f := 0) tyX3 hC rfl in_X3 tyX3_ok nmX3 (Nat.le_of_ble_eq_true rfl) q3374 (fun _ h => h) rfl rfl rfl dX3_done_2 hw (fun M1 hw => ?_)
  refine G_iload_n (pc := 5) (i := 1) hC dX3_done_5 rfl rfl ?_
  exact G_iret (pc := 6) hC rfl hQ dX3_done_6 hw
theorem hd_X3_done : yX3_done.cls = "MergeWorkbenchModel" ∧ yX3_done.cls ≠ "java/lang/invoke/MethodHandle" ∧ yX3_done.cls ≠ "java/lang/invoke/VarHandle" ∧ (parseMethodDescriptor yX3_done.desc).map (fun d => d.parameters.length) = some 1 := by decide +kernel
theorem hd_X3_fails : yX3_fails.cls = "MergeWorkbenchModel" ∧ yX3_fails.cls ≠ "java/lang/invoke/MethodHandle" ∧ yX3_fails.cls ≠ "java/lang/invoke/VarHandle" ∧ (parseMethodDescriptor yX3_fails.desc).map (fun d => d.parameters.length) = some 1 := by decide +kernel
theorem hd_X3_isRegister : yX3_isRegister.cls = "MergeWorkbenchModel" ∧ yX3_isRegister.cls ≠ "java/lang/invoke/MethodHandle" ∧ yX3_isRegister.cls ≠ "java/lang/invoke/VarHandle" ∧ (parseMethodDescriptor yX3_isRegister.desc).map (fun d => d.parameters.length) = some 1 := by decide +kernel
theorem hd_X3_remembers : yX3_remembers.cls = "MergeWorkbenchModel" ∧ yX3_remembers.cls ≠ "java/lang/invoke/MethodHandle" ∧ yX3_remembers.cls ≠ "java/lang/invoke/VarHandle" ∧ (parseMethodDescriptor yX3_remembers.desc).map (fun d => d.parameters.length) = some 1 := by decide +kernel
def w_X3_append_17 (g : gT) (F : Nat) (a0 : Nat) (p1 : Int32) (p2 : Int32) (Q : Int32 → hM → Prop) (M : hM) : Prop :=
  (isC M a0 2 ∧ w_X3_fails g F a0 (1 : Int32) M (fun x2 M1 => Q x2 M1))
def w_X3_append (g : gT) (F : Nat) (a0 : Nat) (p1 : Int32) (p2 : Int32) (M : hM) (Q : Int32 → hM → Prop) : Prop :=
  w_X3_isRegister g F p1 M (fun x2 M1 => ((x2 = 0 → w_X3_append_17 g F a0 p1 p2 Q M1) ∧ (¬ (x2 = 0) → w_X3_in g F p2 (0 : Int32) (25 : Int32) M1 (fun x4 M3 => ((¬ x4 = 0 → gF M3 (some a0) 2 2 fun x5 => aI M3 x5 0 p1 fun x6 => ((¬ x6 = (24 : Int32) → (isC M3 a0 2 ∧ w_X3_remembers g F a0 p1 M3 (fun M7 => gF M7 (some a0) 2 1 fun x8 => gF M7 (some a0) 2 2 fun x9 => aI M7 x9 0 p1 fun x10 => sI M7 x8 0 (((24 : Int32) * p1) + x10) p2 fun M11 => gF M11 (some a0) 2 2 fun x12 => aI M11 x12 0 p1 fun x13 => sI M11 x12 0 p1 (x13 + (1 : Int32)) fun M14 => gF M14 (some a0) 2 2 fun x15 => aI M14 x15 0 p1 fun x16 => (isC M14 a0 2 ∧ w_X3_done g F a0 x16 M14 (fun x18 M17 => Q x18 M17))))) ∧ (x6 = (24 : Int32) → (isC M3 a0 2 ∧ w_X3_fails g F a0 (2 : Int32) M3 (fun x20 M19 => Q x20 M19))))) ∧ (x4 = 0 → w_X3_append_17 g F a0 p1 p2 Q M3))))))
theorem g_X3_append_17 {k : kT} {F : Nat} {a0 : Nat} {p1 : Int32} {p2 : Int32} {Q : Int32 → hM → Prop} (hJ : JOK (kl k) (kg k)) (hC : CX k 3 cX3_append RX3 (some .int) 3 54) (hQ : isQ k (PI Q)) (hin : (kt k).name = "append") : ∀  (M : hM), w_X3_append_17 (kg k) F a0 p1 p2 Q  M → GW k 3 M 17 [some (va_rf (some a0)), some (.int p1), some (.int p2)] [] := by
  intro  M hw
  refine G_aload_n (pc := 17) (i := 0) hC dX3_append_17 rfl rfl ?_
  refine G_iconst (pc := 18) (v := 1) hC dX3_append_18 (by decide) ?_
  obtain ⟨hb, hw⟩ := hw
  refine G_callV (pc := 19) (n := 1) (C := "MergeWorkbenchModel") (b := a0) (As := [.int (1 : Int32)]) (rest := []) hC (m_X3_fails hJ hw) (lw_V q3573 q3575 qs52 q108 q3576) hd_X3_fails (by decide) (rcv (C := RX3) (T := TX3) (N := 61) hC hb rfl) rfl rfl (st_c cat_e (Nat.le_of_ble_eq_true rfl)) dX3_append_19 (kI fun x2 M1 hw => ?_)
  exact G_iret (pc := 22) hC rfl hQ dX3_append_22 hw
theorem m_X3_append {l : Launch} {g : gT} {F : Nat} {a0 : Nat} {p1 : Int32} {p2 : Int32} {M : hM} {Q : Int32 → hM → Prop} (hJ : JOK l g) (hw : w_X3_append g F a0 p1 p2 M Q) : MG l g yX3_append (ws_ yX3_append cX3_append 3 (some .int)) 3 54 [va_rf (some a0), .int p1, .int p2] M (PI Q) := by
  refine MG_of hJ.2.1 (by decide) (cat_r (cat_i (cat_i cat_e))) (Nat.le_of_ble_eq_true rfl) (fun k hl hg hin hQ hC => ?_)
  subst hl hg
  show GW k 3 M 0 [some (va_rf (some a0)), some (.int p1), some (.int p2)] []
  refine G_iload_n (pc := 0) (i := 1) hC dX3_append_0 rfl rfl ?_
  refine G_callS (pc := 1) (n := 1) (As := [.int p1]) (rest := []) hC (m_X3_isRegister hJ hw) (lw_S q3567 q3568 q108 q3569) hd_X3_isRegister.2 (by decide) rfl rfl (st_c cat_e (Nat.le_of_ble_eq_true rfl)) dX3_append_1 (kI fun x2 M1 hw => ?_)
  refine G_if_eq (pc := 4) (tgt := 17) hC dX3_append_4 (by decide) (fun hc => ?_) (fun hc => ?_)
  · replace hw := hw.1 hc
    exact g_X3_append_17 hJ hC hQ hin   M1 hw
  · replace hw := hw.2 hc
    refine G_iload_n (pc := 7) (i := 2) hC dX3_append_7 rfl rfl ?_
    refine G_iconst (pc := 8) (v := 0) hC dX3_append_8 (by decide) ?_
    refine G_bipush (pc := 9) (v := 25) hC dX3_append_9 (by decide) ?_
    refine G_callS (pc := 11) (n := 3) (As := [.int p2, .int (0 : Int32), .int (25 : Int32)]) (rest := []) hC (m_X3_in hJ hw) (lw_S q3570 q3571 q108 q3572) hd_X3_in.2 (by decide) rfl rfl (st_c cat_e (Nat.le_of_ble_eq_true rfl)) dX3_append_11 (kI fun x4 M3 hw => ?_)
    refine G_if_ne (pc := 14) (tgt := 23) hC dX3_append_14 (by decide) (fun hc => ?_) (fun hc => ?_)
    · replace hw := hw.1 hc
      refine G_aload_n (pc := 23) (i := 0) hC dX3_append_23 rfl rfl ?_
      refine G_getF (pc := 24) (ci := 2) (C := RX3) (T := TX3) (N := 61) (f := 2) hC rfl in_X3 (Nat.le_of_ble_eq_true rfl) q3376 (fun _ h => h) dX3_append_24 hw (fun x5 hw => ?_)
      refine G_iload_n (pc := 27) (i := 1) hC dX3_append_27 rfl rfl ?_
      refine G_iald (pc := 28) hC dX3_append_28 hw (fun x6 hw => ?_)
      refine G_bipush (pc := 29) (v := 24) hC dX3_append_29 (by decide) ?_
      refine G_icmp_ne (pc := 31) (tgt := 40) hC dX3_append_31 (by decide) (fun hc => ?_) (fun hc => ?_)
      · replace hw := hw.1 hc
        refine G_aload_n (pc := 40) (i := 0) hC dX3_append_40 rfl rfl ?_
        refine G_iload_n (pc := 41) (i := 1) hC dX3_append_41 rfl rfl ?_
        obtain ⟨hb, hw⟩ := hw
        refine G_callV (pc := 42) (n := 1) (C := "MergeWorkbenchModel") (b := a0) (As := [.int p1]) (rest := []) hC (m_X3_remembers hJ hw) (lw_V q3577 q3579 qs53 q108 q3580) hd_X3_remembers (by decide) (rcv (C := RX3) (T := TX3) (N := 61) hC hb rfl) rfl rfl (st_c cat_e (Nat.le_of_ble_eq_true rfl)) dX3_append_42 (kU fun M7 hw => ?_)
        refine G_aload_n (pc := 45) (i := 0) hC dX3_append_45 rfl rfl ?_
        refine G_getF (pc := 46) (ci := 2) (C := RX3) (T := TX3) (N := 61) (f := 1) hC rfl in_X3 (Nat.le_of_ble_eq_true rfl) q3375 (fun _ h => h) dX3_append_46 hw (fun x8 hw => ?_)
        refine G_bipush (pc := 49) (v := 24) hC dX3_append_49 (by decide) ?_
        refine G_iload_n (pc := 51) (i := 1) hC dX3_append_51 rfl rfl ?_
        refine G_imul (pc := 52) hC dX3_append_52 ?_
        refine G_aload_n (pc := 53) (i := 0) hC dX3_append_53 rfl rfl ?_
        refine G_getF (pc := 54) (ci := 2) (C := RX3) (T := TX3) (N := 61) (f := 2) hC rfl in_X3 (Nat.le_of_ble_eq_true rfl) q3376 (fun _ h => h) dX3_append_54 hw (fun x9 hw => ?_)
        refine G_iload_n (pc := 57) (i := 1) hC dX3_append_57 rfl rfl ?_
        refine G_iald (pc := 58) hC dX3_append_58 hw (fun x10 hw => ?_)
        refine G_iadd (pc := 59) hC dX3_append_59 ?_
        refine G_iload_n (pc := 60) (i := 2) hC dX3_append_60 rfl rfl ?_
        refine G_iast (pc := 61) hC dX3_append_61 hw (fun M11 hw => ?_)
        refine G_aload_n (pc := 62) (i := 0) hC dX3_append_62 rfl rfl ?_
        refine G_getF (pc := 63) (ci := 2) (C := RX3) (T := TX3) (N := 61) (f := 2) hC rfl in_X3 (Nat.le_of_ble_eq_true rfl) q3376 (fun _ h => h) dX3_append_63 hw (fun x12 hw => ?_)
        refine G_iload_n (pc := 66) (i := 1) hC dX3_append_66 rfl rfl ?_
        refine G_dup2 (pc := 67) hC dX3_append_67 rfl (rf_cat _) ?_
        refine G_iald (pc := 68) hC dX3_append_68 hw (fun x13 hw => ?_)
        refine G_iconst (pc := 69) (v := 1) hC dX3_append_69 (by decide) ?_
        refine G_iadd (pc := 70) hC dX3_append_70 ?_
        refine G_iast (pc := 71) hC dX3_append_71 hw (fun M14 hw => ?_)
        refine G_aload_n (pc := 72) (i := 0) hC dX3_append_72 rfl rfl ?_
        refine G_aload_n (pc := 73) (i := 0) hC dX3_append_73 rfl rfl ?_
        refine G_getF (pc := 74) (ci := 2) (C := RX3) (T := TX3) (N := 61) (f := 2) hC rfl in_X3 (Nat.le_of_ble_eq_true rfl) q3376 (fun _ h => h) dX3_append_74 hw (fun x15 hw => ?_)
        refine G_iload_n (pc := 77) (i := 1) hC dX3_append_77 rfl rfl ?_
        refine G_iald (pc := 78) hC dX3_append_78 hw (fun x16 hw => ?_)
        obtain ⟨hb, hw⟩ := hw
        refine G_callV (pc := 79) (n := 1) (C := "MergeWorkbenchModel") (b := a0) (As := [.int x16]) (rest := []) hC (m_X3_done hJ hw) (lw_V q3581 q3583 qs54 q108 q3584) hd_X3_done (by decide) (rcv (C := RX3) (T := TX3) (N := 61) hC hb rfl) rfl rfl (st_c cat_e (Nat.le_of_ble_eq_true rfl)) dX3_append_79 (kI fun x18 M17 hw => ?_)
        exact G_iret (pc := 82) hC rfl hQ dX3_append_82 hw
      · replace hw := hw.2 hc
        refine G_aload_n (pc := 34) (i := 0) hC dX3_append_34 rfl rfl ?_
        refine G_iconst (pc := 35) (v := 2) hC dX3_append_35 (by decide) ?_
        obtain ⟨hb, hw⟩ := hw
        refine G_callV (pc := 36) (n := 1) (C := "MergeWorkbenchModel") (b := a0) (As := [.int (2 : Int32)]) (rest := []) hC (m_X3_fails hJ hw) (lw_V q3573 q3575 qs52 q108 q3576) hd_X3_fails (by decide) (rcv (C := RX3) (T := TX3) (N := 61) hC hb rfl) rfl rfl (st_c cat_e (Nat.le_of_ble_eq_true rfl)) dX3_append_36 (kI fun x20 M19 hw => ?_)
        exact G_iret (pc := 39) hC rfl hQ dX3_append_39 hw
    · replace hw := hw.2 hc
      exact g_X3_append_17 hJ hC hQ hin   M3 hw
def w_X3_insert_17 (g : gT) (F : Nat) (a0 : Nat) (p1 : Int32) (p2 : Int32) (p3 : Int32) (Q : Int32 → hM → Prop) (M : hM) : Prop :=
  (isC M a0 2 ∧ w_X3_fails g F a0 (1 : Int32) M (fun x2 M1 => Q x2 M1))
def w_X3_insert_73 (g : gT) (F : Nat) (a0 : Nat) (p1 : Int32) (p2 : Int32) (p3 : Int32) (Q : Int32 → hM → Prop) : Nat → Int32 → hM → Prop
  | 0, _, _ => False
  | n + 1, v4, M => ((v4 ≤ p2 → gF M (some a0) 2 1 fun x1 => sI M x1 0 (((24 : Int32) * p1) + p2) p3 fun M2 => gF M2 (some a0) 2 2 fun x3 => aI M2 x3 0 p1 fun x4 => sI M2 x3 0 p1 (x4 + (1 : Int32)) fun M5 => gF M5 (some a0) 2 2 fun x6 => aI M5 x6 0 p1 fun x7 => (isC M5 a0 2 ∧ w_X3_done g F a0 x7 M5 (fun x9 M8 => Q x9 M8))) ∧ (¬ (v4 ≤ p2) → gF M (some a0) 2 1 fun x10 => gF M (some a0) 2 1 fun x11 => aI M x11 0 ((((24 : Int32) * p1) + v4) - (1 : Int32)) fun x12 => sI M x10 0 (((24 : Int32) * p1) + v4) x12 fun M13 => w_X3_insert_73 g F a0 p1 p2 p3 Q n (v4 + (-1 : Int32)) M13))
def w_X3_insert (g : gT) (F : Nat) (a0 : Nat) (p1 : Int32) (p2 : Int32) (p3 : Int32) (M : hM) (Q : Int32 → hM → Prop) : Prop :=
  w_X3_isRegister g F p1 M (fun x2 M1 => ((x2 = 0 → w_X3_insert_17 g F a0 p1 p2 p3 Q M1) ∧ (¬ (x2 = 0) → w_X3_in g F p3 (0 : Int32) (25 : Int32) M1 (fun x4 M3 => ((¬ x4 = 0 → gF M3 (some a0) 2 2 fun x5 => aI M3 x5 0 p1 fun x6 => ((¬ x6 = (24 : Int32) → gF M3 (some a0) 2 2 fun x7 => aI M3 x7 0 p1 fun x8 => w_X3_in g F p2 (0 : Int32) x8 M3 (fun x10 M9 => ((¬ x10 = 0 → (isC M9 a0 2 ∧ w_X3_remembers g F a0 p1 M9 (fun M11 => gF M11 (some a0) 2 2 fun x12 => aI M11 x12 0 p1 fun x13 => w_X3_insert_73 g F a0 p1 p2 p3 Q F x13 M11))) ∧ (x10 = 0 → (isC M9 a0 2 ∧ w_X3_fails g F a0 (3 : Int32) M9 (fun x15 M14 => Q x15 M14)))))) ∧ (x6 = (24 : Int32) → (isC M3 a0 2 ∧ w_X3_fails g F a0 (2 : Int32) M3 (fun x17 M16 => Q x17 M16))))) ∧ (x4 = 0 → w_X3_insert_17 g F a0 p1 p2 p3 Q M3))))))
theorem g_X3_insert_17 {k : kT} {F : Nat} {a0 : Nat} {p1 : Int32} {p2 : Int32} {p3 : Int32} {Q : Int32 → hM → Prop} (hJ : JOK (kl k) (kg k)) (hC : CX k 5 cX3_insert RX3 (some .int) 3 54) (hQ : isQ k (PI Q)) (hin : (kt k).name = "insert") : ∀  (M : hM), w_X3_insert_17 (kg k) F a0 p1 p2 p3 Q  M → GW k 5 M 17 [some (va_rf (some a0)), some (.int p1), some (.int p2), some (.int p3), none] [] := by
  intro  M hw
  refine G_aload_n (pc := 17) (i := 0) hC dX3_insert_17 rfl rfl ?_
  refine G_iconst (pc := 18) (v := 1) hC dX3_insert_18 (by decide) ?_
  obtain ⟨hb, hw⟩ := hw
  refine G_callV (pc := 19) (n := 1) (C := "MergeWorkbenchModel") (b := a0) (As := [.int (1 : Int32)]) (rest := []) hC (m_X3_fails hJ hw) (lw_V q3573 q3575 qs52 q108 q3576) hd_X3_fails (by decide) (rcv (C := RX3) (T := TX3) (N := 61) hC hb rfl) rfl rfl (st_c cat_e (Nat.le_of_ble_eq_true rfl)) dX3_insert_19 (kI fun x2 M1 hw => ?_)
  exact G_iret (pc := 22) hC rfl hQ dX3_insert_22 hw
theorem g_X3_insert_73 {k : kT} {F : Nat} {a0 : Nat} {p1 : Int32} {p2 : Int32} {p3 : Int32} {Q : Int32 → hM → Prop} (hJ : JOK (kl k) (kg k)) (hC : CX k 5 cX3_insert RX3 (some .int) 3 54) (hQ : isQ k (PI Q)) (hin : (kt k).name = "insert") : ∀ (n : Nat) (v4 : Int32) (M : hM), w_X3_insert_73 (kg k) F a0 p1 p2 p3 Q n v4 M → GW k 5 M 73 [some (va_rf (some a0)), some (.int p1), some (.int p2), some (.int p3), some (.int v4)] [] := by
  intro n
  induction n with
  | zero =>
    intro v4 M hw
    exact hw.elim
  | succ n ih =>
    intro v4 M hw
    refine G_iload (pc := 73) (i := 4) hC dX3_insert_73 rfl ?_
    refine G_iload_n (pc := 75) (i := 2) hC dX3_insert_75 rfl rfl ?_
    refine G_icmp_le (pc := 76) (tgt := 111) hC dX3_insert_76 (by decide) (fun hc => ?_) (fun hc => ?_)
    · replace hw := hw.1 hc
      refine G_aload_n (pc := 111) (i := 0) hC dX3_insert_111 rfl rfl ?_
      refine G_getF (pc := 112) (ci := 2) (C := RX3) (T := TX3) (N := 61) (f := 1) hC rfl in_X3 (Nat.le_of_ble_eq_true rfl) q3375 (fun _ h => h) dX3_insert_112 hw (fun x1 hw => ?_)
      refine G_bipush (pc := 115) (v := 24) hC dX3_insert_115 (by decide) ?_
      refine G_iload_n (pc := 117) (i := 1) hC dX3_insert_117 rfl rfl ?_
      refine G_imul (pc := 118) hC dX3_insert_118 ?_
      refine G_iload_n (pc := 119) (i := 2) hC dX3_insert_119 rfl rfl ?_
      refine G_iadd (pc := 120) hC dX3_insert_120 ?_
      refine G_iload_n (pc := 121) (i := 3) hC dX3_insert_121 rfl rfl ?_
      refine G_iast (pc := 122) hC dX3_insert_122 hw (fun M2 hw => ?_)
      refine G_aload_n (pc := 123) (i := 0) hC dX3_insert_123 rfl rfl ?_
      refine G_getF (pc := 124) (ci := 2) (C := RX3) (T := TX3) (N := 61) (f := 2) hC rfl in_X3 (Nat.le_of_ble_eq_true rfl) q3376 (fun _ h => h) dX3_insert_124 hw (fun x3 hw => ?_)
      refine G_iload_n (pc := 127) (i := 1) hC dX3_insert_127 rfl rfl ?_
      refine G_dup2 (pc := 128) hC dX3_insert_128 rfl (rf_cat _) ?_
      refine G_iald (pc := 129) hC dX3_insert_129 hw (fun x4 hw => ?_)
      refine G_iconst (pc := 130) (v := 1) hC dX3_insert_130 (by decide) ?_
      refine G_iadd (pc := 131) hC dX3_insert_131 ?_
      refine G_iast (pc := 132) hC dX3_insert_132 hw (fun M5 hw => ?_)
      refine G_aload_n (pc := 133) (i := 0) hC dX3_insert_133 rfl rfl ?_
      refine G_aload_n (pc := 134) (i := 0) hC dX3_insert_134 rfl rfl ?_
      refine G_getF (pc := 135) (ci := 2) (C := RX3) (T := TX3) (N := 61) (f := 2) hC rfl in_X3 (Nat.le_of_ble_eq_true rfl) q3376 (fun _ h => h) dX3_insert_135 hw (fun x6 hw => ?_)
      refine G_iload_n (pc := 138) (i := 1) hC dX3_insert_138 rfl rfl ?_
      refine G_iald (pc := 139) hC dX3_insert_139 hw (fun x7 hw => ?_)
      obtain ⟨hb, hw⟩ := hw
      refine G_callV (pc := 140) (n := 1) (C := "MergeWorkbenchModel") (b := a0) (As := [.int x7]) (rest := []) hC (m_X3_done hJ hw) (lw_V q3581 q3583 qs54 q108 q3584) hd_X3_done (by decide) (rcv (C := RX3) (T := TX3) (N := 61) hC hb rfl) rfl rfl (st_c cat_e (Nat.le_of_ble_eq_true rfl)) dX3_insert_140 (kI fun x9 M8 hw => ?_)
      exact G_iret (pc := 143) hC rfl hQ dX3_insert_143 hw
    · replace hw := hw.2 hc
      refine G_aload_n (pc := 79) (i := 0) hC dX3_insert_79 rfl rfl ?_
      refine G_getF (pc := 80) (ci := 2) (C := RX3) (T := TX3) (N := 61) (f := 1) hC rfl in_X3 (Nat.le_of_ble_eq_true rfl) q3375 (fun _ h => h) dX3_insert_80 hw (fun x10 hw => ?_)
      refine G_bipush (pc := 83) (v := 24) hC dX3_insert_83 (by decide) ?_
      refine G_iload_n (pc := 85) (i := 1) hC dX3_insert_85 rfl rfl ?_
      refine G_imul (pc := 86) hC dX3_insert_86 ?_
      refine G_iload (pc := 87) (i := 4) hC dX3_insert_87 rfl ?_
      refine G_iadd (pc := 89) hC dX3_insert_89 ?_
      refine G_aload_n (pc := 90) (i := 0) hC dX3_insert_90 rfl rfl ?_
      refine G_getF (pc := 91) (ci := 2) (C := RX3) (T := TX3) (N := 61) (f := 1) hC rfl in_X3 (Nat.le_of_ble_eq_true rfl) q3375 (fun _ h => h) dX3_insert_91 hw (fun x11 hw => ?_)
      refine G_bipush (pc := 94) (v := 24) hC dX3_insert_94 (by decide) ?_
      refine G_iload_n (pc := 96) (i := 1) hC dX3_insert_96 rfl rfl ?_
      refine G_imul (pc := 97) hC dX3_insert_97 ?_
      refine G_iload (pc := 98) (i := 4) hC dX3_insert_98 rfl ?_
      refine G_iadd (pc := 100) hC dX3_insert_100 ?_
      refine G_iconst (pc := 101) (v := 1) hC dX3_insert_101 (by decide) ?_
      refine G_isub (pc := 102) hC dX3_insert_102 ?_
      refine G_iald (pc := 103) hC dX3_insert_103 hw (fun x12 hw => ?_)
      refine G_iast (pc := 104) hC dX3_insert_104 hw (fun M13 hw => ?_)
      refine G_iinc (pc := 105) (i := 4) (v := (v4 + (-1 : Int32))) (lw := [some (va_rf (some a0)), some (.int p1), some (.int p2), some (.int p3), some (.int (v4 + (-1 : Int32)))]) hC dX3_insert_105 rfl (Nat.le_of_ble_eq_true rfl) rfl rfl ?_
      refine G_goto (pc := 108) (tgt := 73) hC dX3_insert_108 (by decide) ?_
      exact ih (v4 + (-1 : Int32)) M13 hw
theorem m_X3_insert {l : Launch} {g : gT} {F : Nat} {a0 : Nat} {p1 : Int32} {p2 : Int32} {p3 : Int32} {M : hM} {Q : Int32 → hM → Prop} (hJ : JOK l g) (hw : w_X3_insert g F a0 p1 p2 p3 M Q) : MG l g yX3_insert (ws_ yX3_insert cX3_insert 5 (some .int)) 3 54 [va_rf (some a0), .int p1, .int p2, .int p3] M (PI Q) := by
  refine MG_of hJ.2.1 (by decide) (cat_r (cat_i (cat_i (cat_i cat_e)))) (Nat.le_of_ble_eq_true rfl) (fun k hl hg hin hQ hC => ?_)
  subst hl hg
  show GW k 5 M 0 [some (va_rf (some a0)), some (.int p1), some (.int p2), some (.int p3), none] []
  refine G_iload_n (pc := 0) (i := 1) hC dX3_insert_0 rfl rfl ?_
  refine G_callS (pc := 1) (n := 1) (As := [.int p1]) (rest := []) hC (m_X3_isRegister hJ hw) (lw_S q3567 q3568 q108 q3569) hd_X3_isRegister.2 (by decide) rfl rfl (st_c cat_e (Nat.le_of_ble_eq_true rfl)) dX3_insert_1 (kI fun x2 M1 hw => ?_)
  refine G_if_eq (pc := 4) (tgt := 17) hC dX3_insert_4 (by decide) (fun hc => ?_) (fun hc => ?_)
  · replace hw := hw.1 hc
    exact g_X3_insert_17 hJ hC hQ hin   M1 hw
  · replace hw := hw.2 hc
    refine G_iload_n (pc := 7) (i := 3) hC dX3_insert_7 rfl rfl ?_
    refine G_iconst (pc := 8) (v := 0) hC dX3_insert_8 (by decide) ?_
    refine G_bipush (pc := 9) (v := 25) hC dX3_insert_9 (by decide) ?_
    refine G_callS (pc := 11) (n := 3) (As := [.int p3, .int (0 : Int32), .int (25 : Int32)]) (rest := []) hC (m_X3_in hJ hw) (lw_S q3570 q3571 q108 q3572) hd_X3_in.2 (by decide) rfl rfl (st_c cat_e (Nat.le_of_ble_eq_true rfl)) dX3_insert_11 (kI fun x4 M3 hw => ?_)
    refine G_if_ne (pc := 14) (tgt := 23) hC dX3_insert_14 (by decide) (fun hc => ?_) (fun hc => ?_)
    · replace hw := hw.1 hc
      refine G_aload_n (pc := 23) (i := 0) hC dX3_insert_23 rfl rfl ?_
      refine G_getF (pc := 24) (ci := 2) (C := RX3) (T := TX3) (N := 61) (f := 2) hC rfl in_X3 (Nat.le_of_ble_eq_true rfl) q3376 (fun _ h => h) dX3_insert_24 hw (fun x5 hw => ?_)
      refine G_iload_n (pc := 27) (i := 1) hC dX3_insert_27 rfl rfl ?_
      refine G_iald (pc := 28) hC dX3_insert_28 hw (fun x6 hw => ?_)
      refine G_bipush (pc := 29) (v := 24) hC dX3_insert_29 (by decide) ?_
      refine G_icmp_ne (pc := 31) (tgt := 40) hC dX3_insert_31 (by decide) (fun hc => ?_) (fun hc => ?_)
      · replace hw := hw.1 hc
        refine G_iload_n (pc := 40) (i := 2) hC dX3_insert_40 rfl rfl ?_
        refine G_iconst (pc := 41) (v := 0) hC dX3_insert_41 (by decide) ?_
        refine G_aload_n (pc := 42) (i := 0) hC dX3_insert_42 rfl rfl ?_
        refine G_getF (pc := 43) (ci := 2) (C := RX3) (T := TX3) (N := 61) (f := 2) hC rfl in_X3 (Nat.le_of_ble_eq_true rfl) q3376 (fun _ h => h) dX3_insert_43 hw (fun x7 hw => ?_)
        refine G_iload_n (pc := 46) (i := 1) hC dX3_insert_46 rfl rfl ?_
        refine G_iald (pc := 47) hC dX3_insert_47 hw (fun x8 hw => ?_)
        refine G_callS (pc := 48) (n := 3) (As := [.int p2, .int (0 : Int32), .int x8]) (rest := []) hC (m_X3_in hJ hw) (lw_S q3570 q3571 q108 q3572) hd_X3_in.2 (by decide) rfl rfl (st_c cat_e (Nat.le_of_ble_eq_true rfl)) dX3_insert_48 (kI fun x10 M9 hw => ?_)
        refine G_if_ne (pc := 51) (tgt := 60) hC dX3_insert_51 (by decide) (fun hc => ?_) (fun hc => ?_)
        · replace hw := hw.1 hc
          refine G_aload_n (pc := 60) (i := 0) hC dX3_insert_60 rfl rfl ?_
          refine G_iload_n (pc := 61) (i := 1) hC dX3_insert_61 rfl rfl ?_
          obtain ⟨hb, hw⟩ := hw
          refine G_callV (pc := 62) (n := 1) (C := "MergeWorkbenchModel") (b := a0) (As := [.int p1]) (rest := []) hC (m_X3_remembers hJ hw) (lw_V q3577 q3579 qs53 q108 q3580) hd_X3_remembers (by decide) (rcv (C := RX3) (T := TX3) (N := 61) hC hb rfl) rfl rfl (st_c cat_e (Nat.le_of_ble_eq_true rfl)) dX3_insert_62 (kU fun M11 hw => ?_)
          refine G_aload_n (pc := 65) (i := 0) hC dX3_insert_65 rfl rfl ?_
          refine G_getF (pc := 66) (ci := 2) (C := RX3) (T := TX3) (N := 61) (f := 2) hC rfl in_X3 (Nat.le_of_ble_eq_true rfl) q3376 (fun _ h => h) dX3_insert_66 hw (fun x12 hw => ?_)
          refine G_iload_n (pc := 69) (i := 1) hC dX3_insert_69 rfl rfl ?_
          refine G_iald (pc := 70) hC dX3_insert_70 hw (fun x13 hw => ?_)
          refine G_istore (pc := 71) (i := 4) (lw := [some (va_rf (some a0)), some (.int p1), some (.int p2), some (.int p3), some (.int x13)]) hC dX3_insert_71 (Nat.le_of_ble_eq_true rfl) rfl ?_
          exact g_X3_insert_73 hJ hC hQ hin _ x13 M11 hw
        · replace hw := hw.2 hc
          refine G_aload_n (pc := 54) (i := 0) hC dX3_insert_54 rfl rfl ?_
          refine G_iconst (pc := 55) (v := 3) hC dX3_insert_55 (by decide) ?_
          obtain ⟨hb, hw⟩ := hw
          refine G_callV (pc := 56) (n := 1) (C := "MergeWorkbenchModel") (b := a0) (As := [.int (3 : Int32)]) (rest := []) hC (m_X3_fails hJ hw) (lw_V q3573 q3575 qs52 q108 q3576) hd_X3_fails (by decide) (rcv (C := RX3) (T := TX3) (N := 61) hC hb rfl) rfl rfl (st_c cat_e (Nat.le_of_ble_eq_true rfl)) dX3_insert_56 (kI fun x15 M14 hw => ?_)
          exact G_iret (pc := 59) hC rfl hQ dX3_insert_59 hw
      · replace hw := hw.2 hc
        refine G_aload_n (pc := 34) (i := 0) hC dX3_insert_34 rfl rfl ?_
        refine G_iconst (pc := 35) (v := 2) hC dX3_insert_35 (by decide) ?_
        obtain ⟨hb, hw⟩ := hw
        refine G_callV (pc := 36) (n := 1) (C := "MergeWorkbenchModel") (b := a0) (As := [.int (2 : Int32)]) (rest := []) hC (m_X3_fails hJ hw) (lw_V q3573 q3575 qs52 q108 q3576) hd_X3_fails (by decide) (rcv (C := RX3) (T := TX3) (N := 61) hC hb rfl) rfl rfl (st_c cat_e (Nat.le_of_ble_eq_true rfl)) dX3_insert_36 (kI fun x17 M16 hw => ?_)
        exact G_iret (pc := 39) hC rfl hQ dX3_insert_39 hw
    · replace hw := hw.2 hc
      exact g_X3_insert_17 hJ hC hQ hin   M3 hw
def w_X3_delete_65 (g : gT) (F : Nat) (a0 : Nat) (p1 : Int32) (p2 : Int32) (Q : Int32 → hM → Prop) : Nat → Int32 → Int32 → hM → Prop
  | 0, _, _, _ => False
  | n + 1, v3, v4, M => gF M (some a0) 2 2 fun x1 => aI M x1 0 p1 fun x2 => ((x2 ≤ v4 → (isC M a0 2 ∧ w_X3_done g F a0 v3 M (fun x4 M3 => Q x4 M3))) ∧ (¬ (x2 ≤ v4) → gF M (some a0) 2 1 fun x5 => gF M (some a0) 2 1 fun x6 => aI M x6 0 ((((24 : Int32) * p1) + v4) + (1 : Int32)) fun x7 => sI M x5 0 (((24 : Int32) * p1) + v4) x7 fun M8 => w_X3_delete_65 g F a0 p1 p2 Q n v3 (v4 + (1 : Int32)) M8))
def w_X3_delete (g : gT) (F : Nat) (a0 : Nat) (p1 : Int32) (p2 : Int32) (M : hM) (Q : Int32 → hM → Prop) : Prop :=
  w_X3_isRegister g F p1 M (fun x2 M1 => ((¬ x2 = 0 → gF M1 (some a0) 2 2 fun x3 => aI M1 x3 0 p1 fun x4 => w_X3_in g F p2 (0 : Int32) (x4 - (1 : Int32)) M1 (fun x6 M5 => ((¬ x6 = 0 → (isC M5 a0 2 ∧ w_X3_remembers g F a0 p1 M5 (fun M7 => gF M7 (some a0) 2 1 fun x8 => aI M7 x8 0 (((24 : Int32) * p1) + p2) fun x9 => gF M7 (some a0) 2 2 fun x10 => aI M7 x10 0 p1 fun x11 => sI M7 x10 0 p1 (x11 - (1 : Int32)) fun M12 => w_X3_delete_65 g F a0 p1 p2 Q F x9 p2 M12))) ∧ (x6 = 0 → (isC M5 a0 2 ∧ w_X3_fails g F a0 (2 : Int32) M5 (fun x14 M13 => Q x14 M13)))))) ∧ (x2 = 0 → (isC M1 a0 2 ∧ w_X3_fails g F a0 (1 : Int32) M1 (fun x16 M15 => Q x16 M15)))))
theorem g_X3_delete_65 {k : kT} {F : Nat} {a0 : Nat} {p1 : Int32} {p2 : Int32} {Q : Int32 → hM → Prop} (hJ : JOK (kl k) (kg k)) (hC : CX k 5 cX3_delete RX3 (some .int) 3 54) (hQ : isQ k (PI Q)) (hin : (kt k).name = "delete") : ∀ (n : Nat) (v3 : Int32) (v4 : Int32) (M : hM), w_X3_delete_65 (kg k) F a0 p1 p2 Q n v3 v4 M → GW k 5 M 65 [some (va_rf (some a0)), some (.int p1), some (.int p2), some (.int v3), some (.int v4)] [] := by
  intro n
  induction n with
  | zero =>
    intro v3 v4 M hw
    exact hw.elim
  | succ n ih =>
    intro v3 v4 M hw
    refine G_iload (pc := 65) (i := 4) hC dX3_delete_65 rfl ?_
    refine G_aload_n (pc := 67) (i := 0) hC dX3_delete_67 rfl rfl ?_
    refine G_getF (pc := 68) (ci := 2) (C := RX3) (T := TX3) (N := 61) (f := 2) hC rfl in_X3 (Nat.le_of_ble_eq_true rfl) q3376 (fun _ h => h) dX3_delete_68 hw (fun x1 hw => ?_)
    refine G_iload_n (pc := 71) (i := 1) hC dX3_delete_71 rfl rfl ?_
    refine G_iald (pc := 72) hC dX3_delete_72 hw (fun x2 hw => ?_)
    refine G_icmp_ge (pc := 73) (tgt := 108) hC dX3_delete_73 (by decide) (fun hc => ?_) (fun hc => ?_)
    · replace hw := hw.1 hc
      refine G_aload_n (pc := 108) (i := 0) hC dX3_delete_108 rfl rfl ?_
      refine G_iload_n (pc := 109) (i := 3) hC dX3_delete_109 rfl rfl ?_
      obtain ⟨hb, hw⟩ := hw
      refine G_callV (pc := 110) (n := 1) (C := "MergeWorkbenchModel") (b := a0) (As := [.int v3]) (rest := []) hC (m_X3_done hJ hw) (lw_V q3581 q3583 qs54 q108 q3584) hd_X3_done (by decide) (rcv (C := RX3) (T := TX3) (N := 61) hC hb rfl) rfl rfl (st_c cat_e (Nat.le_of_ble_eq_true rfl)) dX3_delete_110 (kI fun x4 M3 hw => ?_)
      exact G_iret (pc := 113) hC rfl hQ dX3_delete_113 hw
    · replace hw := hw.2 hc
      refine G_aload_n (pc := 76) (i := 0) hC dX3_delete_76 rfl rfl ?_
      refine G_getF (pc := 77) (ci := 2) (C := RX3) (T := TX3) (N := 61) (f := 1) hC rfl in_X3 (Nat.le_of_ble_eq_true rfl) q3375 (fun _ h => h) dX3_delete_77 hw (fun x5 hw => ?_)
      refine G_bipush (pc := 80) (v := 24) hC dX3_delete_80 (by decide) ?_
      refine G_iload_n (pc := 82) (i := 1) hC dX3_delete_82 rfl rfl ?_
      refine G_imul (pc := 83) hC dX3_delete_83 ?_
      refine G_iload (pc := 84) (i := 4) hC dX3_delete_84 rfl ?_
      refine G_iadd (pc := 86) hC dX3_delete_86 ?_
      refine G_aload_n (pc := 87) (i := 0) hC dX3_delete_87 rfl rfl ?_
      refine G_getF (pc := 88) (ci := 2) (C := RX3) (T := TX3) (N := 61) (f := 1) hC rfl in_X3 (Nat.le_of_ble_eq_true rfl) q3375 (fun _ h => h) dX3_delete_88 hw (fun x6 hw => ?_)
      refine G_bipush (pc := 91) (v := 24) hC dX3_delete_91 (by decide) ?_
      refine G_iload_n (pc := 93) (i := 1) hC dX3_delete_93 rfl rfl ?_
      refine G_imul (pc := 94) hC dX3_delete_94 ?_
      refine G_iload (pc := 95) (i := 4) hC dX3_delete_95 rfl ?_
      refine G_iadd (pc := 97) hC dX3_delete_97 ?_
      refine G_iconst (pc := 98) (v := 1) hC dX3_delete_98 (by decide) ?_
      refine G_iadd (pc := 99) hC dX3_delete_99 ?_
      refine G_iald (pc := 100) hC dX3_delete_100 hw (fun x7 hw => ?_)
      refine G_iast (pc := 101) hC dX3_delete_101 hw (fun M8 hw => ?_)
      refine G_iinc (pc := 102) (i := 4) (v := (v4 + (1 : Int32))) (lw := [some (va_rf (some a0)), some (.int p1), some (.int p2), some (.int v3), some (.int (v4 + (1 : Int32)))]) hC dX3_delete_102 rfl (Nat.le_of_ble_eq_true rfl) rfl rfl ?_
      refine G_goto (pc := 105) (tgt := 65) hC dX3_delete_105 (by decide) ?_
      exact ih v3 (v4 + (1 : Int32)) M8 hw
theorem m_X3_delete {l : Launch} {g : gT} {F : Nat} {a0 : Nat} {p1 : Int32} {p2 : Int32} {M : hM} {Q : Int32 → hM → Prop} (hJ : JOK l g) (hw : w_X3_delete g F a0 p1 p2 M Q) : MG l g yX3_delete (ws_ yX3_delete cX3_delete 5 (some .int)) 3 54 [va_rf (some a0), .int p1, .int p2] M (PI Q) := by
  refine MG_of hJ.2.1 (by decide) (cat_r (cat_i (cat_i cat_e))) (Nat.le_of_ble_eq_true rfl) (fun k hl hg hin hQ hC => ?_)
  subst hl hg
  show GW k 5 M 0 [some (va_rf (some a0)), some (.int p1), some (.int p2), none, none] []
  refine G_iload_n (pc := 0) (i := 1) hC dX3_delete_0 rfl rfl ?_
  refine G_callS (pc := 1) (n := 1) (As := [.int p1]) (rest := []) hC (m_X3_isRegister hJ hw) (lw_S q3567 q3568 q108 q3569) hd_X3_isRegister.2 (by decide) rfl rfl (st_c cat_e (Nat.le_of_ble_eq_true rfl)) dX3_delete_1 (kI fun x2 M1 hw => ?_)
  refine G_if_ne (pc := 4) (tgt := 13) hC dX3_delete_4 (by decide) (fun hc => ?_) (fun hc => ?_)
  · replace hw := hw.1 hc
    refine G_iload_n (pc := 13) (i := 2) hC dX3_delete_13 rfl rfl ?_
    refine G_iconst (pc := 14) (v := 0) hC dX3_delete_14 (by decide) ?_
    refine G_aload_n (pc := 15) (i := 0) hC dX3_delete_15 rfl rfl ?_
    refine G_getF (pc := 16) (ci := 2) (C := RX3) (T := TX3) (N := 61) (f := 2) hC rfl in_X3 (Nat.le_of_ble_eq_true rfl) q3376 (fun _ h => h) dX3_delete_16 hw (fun x3 hw => ?_)
    refine G_iload_n (pc := 19) (i := 1) hC dX3_delete_19 rfl rfl ?_
    refine G_iald (pc := 20) hC dX3_delete_20 hw (fun x4 hw => ?_)
    refine G_iconst (pc := 21) (v := 1) hC dX3_delete_21 (by decide) ?_
    refine G_isub (pc := 22) hC dX3_delete_22 ?_
    refine G_callS (pc := 23) (n := 3) (As := [.int p2, .int (0 : Int32), .int (x4 - (1 : Int32))]) (rest := []) hC (m_X3_in hJ hw) (lw_S q3570 q3571 q108 q3572) hd_X3_in.2 (by decide) rfl rfl (st_c cat_e (Nat.le_of_ble_eq_true rfl)) dX3_delete_23 (kI fun x6 M5 hw => ?_)
    refine G_if_ne (pc := 26) (tgt := 35) hC dX3_delete_26 (by decide) (fun hc => ?_) (fun hc => ?_)
    · replace hw := hw.1 hc
      refine G_aload_n (pc := 35) (i := 0) hC dX3_delete_35 rfl rfl ?_
      refine G_iload_n (pc := 36) (i := 1) hC dX3_delete_36 rfl rfl ?_
      obtain ⟨hb, hw⟩ := hw
      refine G_callV (pc := 37) (n := 1) (C := "MergeWorkbenchModel") (b := a0) (As := [.int p1]) (rest := []) hC (m_X3_remembers hJ hw) (lw_V q3577 q3579 qs53 q108 q3580) hd_X3_remembers (by decide) (rcv (C := RX3) (T := TX3) (N := 61) hC hb rfl) rfl rfl (st_c cat_e (Nat.le_of_ble_eq_true rfl)) dX3_delete_37 (kU fun M7 hw => ?_)
      refine G_aload_n (pc := 40) (i := 0) hC dX3_delete_40 rfl rfl ?_
      refine G_getF (pc := 41) (ci := 2) (C := RX3) (T := TX3) (N := 61) (f := 1) hC rfl in_X3 (Nat.le_of_ble_eq_true rfl) q3375 (fun _ h => h) dX3_delete_41 hw (fun x8 hw => ?_)
      refine G_bipush (pc := 44) (v := 24) hC dX3_delete_44 (by decide) ?_
      refine G_iload_n (pc := 46) (i := 1) hC dX3_delete_46 rfl rfl ?_
      refine G_imul (pc := 47) hC dX3_delete_47 ?_
      refine G_iload_n (pc := 48) (i := 2) hC dX3_delete_48 rfl rfl ?_
      refine G_iadd (pc := 49) hC dX3_delete_49 ?_
      refine G_iald (pc := 50) hC dX3_delete_50 hw (fun x9 hw => ?_)
      refine G_istore_n (pc := 51) (i := 3) (lw := [some (va_rf (some a0)), some (.int p1), some (.int p2), some (.int x9), none]) hC dX3_delete_51 rfl (Nat.le_of_ble_eq_true rfl) rfl ?_
      refine G_aload_n (pc := 52) (i := 0) hC dX3_delete_52 rfl rfl ?_
      refine G_getF (pc := 53) (ci := 2) (C := RX3) (T := TX3) (N := 61) (f := 2) hC rfl in_X3 (Nat.le_of_ble_eq_true rfl) q3376 (fun _ h => h) dX3_delete_53 hw (fun x10 hw => ?_)
      refine G_iload_n (pc := 56) (i := 1) hC dX3_delete_56 rfl rfl ?_
      refine G_dup2 (pc := 57) hC dX3_delete_57 rfl (rf_cat _) ?_
      refine G_iald (pc := 58) hC dX3_delete_58 hw (fun x11 hw => ?_)
      refine G_iconst (pc := 59) (v := 1) hC dX3_delete_59 (by decide) ?_
      refine G_isub (pc := 60) hC dX3_delete_60 ?_
      refine G_iast (pc := 61) hC dX3_delete_61 hw (fun M12 hw => ?_)
      refine G_iload_n (pc := 62) (i := 2) hC dX3_delete_62 rfl rfl ?_
      refine G_istore (pc := 63) (i := 4) (lw := [some (va_rf (some a0)), some (.int p1), some (.int p2), some (.int x9), some (.int p2)]) hC dX3_delete_63 (Nat.le_of_ble_eq_true rfl) rfl ?_
      exact g_X3_delete_65 hJ hC hQ hin _ x9 p2 M12 hw
    · replace hw := hw.2 hc
      refine G_aload_n (pc := 29) (i := 0) hC dX3_delete_29 rfl rfl ?_
      refine G_iconst (pc := 30) (v := 2) hC dX3_delete_30 (by decide) ?_
      obtain ⟨hb, hw⟩ := hw
      refine G_callV (pc := 31) (n := 1) (C := "MergeWorkbenchModel") (b := a0) (As := [.int (2 : Int32)]) (rest := []) hC (m_X3_fails hJ hw) (lw_V q3573 q3575 qs52 q108 q3576) hd_X3_fails (by decide) (rcv (C := RX3) (T := TX3) (N := 61) hC hb rfl) rfl rfl (st_c cat_e (Nat.le_of_ble_eq_true rfl)) dX3_delete_31 (kI fun x14 M13 hw => ?_)
      exact G_iret (pc := 34) hC rfl hQ dX3_delete_34 hw
  · replace hw := hw.2 hc
    refine G_aload_n (pc := 7) (i := 0) hC dX3_delete_7 rfl rfl ?_
    refine G_iconst (pc := 8) (v := 1) hC dX3_delete_8 (by decide) ?_
    obtain ⟨hb, hw⟩ := hw
    refine G_callV (pc := 9) (n := 1) (C := "MergeWorkbenchModel") (b := a0) (As := [.int (1 : Int32)]) (rest := []) hC (m_X3_fails hJ hw) (lw_V q3573 q3575 qs52 q108 q3576) hd_X3_fails (by decide) (rcv (C := RX3) (T := TX3) (N := 61) hC hb rfl) rfl rfl (st_c cat_e (Nat.le_of_ble_eq_true rfl)) dX3_delete_9 (kI fun x16 M15 hw => ?_)
    exact G_iret (pc := 12) hC rfl hQ dX3_delete_12 hw
def w_X3_length_25 (g : gT) (F : Nat) (a0 : Nat) (p1 : Int32) (Q : Int32 → hM → Prop) (s0 : Int32) (M : hM) : Prop :=
  Q s0 M
def w_X3_length (g : gT) (F : Nat) (a0 : Nat) (p1 : Int32) (M : hM) (Q : Int32 → hM → Prop) : Prop :=
  w_X3_isRegister g F p1 M (fun x2 M1 => ((x2 = 0 → (isC M1 a0 2 ∧ w_X3_fails g F a0 (1 : Int32) M1 (fun x4 M3 => w_X3_length_25 g F a0 p1 Q x4 M3))) ∧ (¬ (x2 = 0) → gF M1 (some a0) 2 2 fun x5 => aI M1 x5 0 p1 fun x6 => (isC M1 a0 2 ∧ w_X3_done g F a0 x6 M1 (fun x8 M7 => w_X3_length_25 g F a0 p1 Q x8 M7)))))
theorem g_X3_length_25 {k : kT} {F : Nat} {a0 : Nat} {p1 : Int32} {Q : Int32 → hM → Prop} (hJ : JOK (kl k) (kg k)) (hC : CX k 2 cX3_length RX3 (some .int) 3 54) (hQ : isQ k (PI Q)) (hin : (kt k).name = "length") : ∀ (s0 : Int32) (M : hM), w_X3_length_25 (kg k) F a0 p1 Q s0 M → GW k 2 M 25 [some (va_rf (some a0)), some (.int p1)] [.int s0] := by
  intro s0 M hw
  exact G_iret (pc := 25) hC rfl hQ dX3_length_25 hw
theorem m_X3_length {l : Launch} {g : gT} {F : Nat} {a0 : Nat} {p1 : Int32} {M : hM} {Q : Int32 → hM → Prop} (hJ : JOK l g) (hw : w_X3_length g F a0 p1 M Q) : MG l g yX3_length (ws_ yX3_length cX3_length 2 (some .int)) 3 54 [va_rf (some a0), .int p1] M (PI Q) := by
  refine MG_of hJ.2.1 (by decide) (cat_r (cat_i cat_e)) (Nat.le_of_ble_eq_true rfl) (fun k hl hg hin hQ hC => ?_)
  subst hl hg
  show GW k 2 M 0 [some (va_rf (some a0)), some (.int p1)] []
  refine G_iload_n (pc := 0) (i := 1) hC dX3_length_0 rfl rfl ?_
  refine G_callS (pc := 1) (n := 1) (As := [.int p1]) (rest := []) hC (m_X3_isRegister hJ hw) (lw_S q3567 q3568 q108 q3569) hd_X3_isRegister.2 (by decide) rfl rfl (st_c cat_e (Nat.le_of_ble_eq_true rfl)) dX3_length_1 (kI fun x2 M1 hw => ?_)
  refine G_if_eq (pc := 4) (tgt := 20) hC dX3_length_4 (by decide) (fun hc => ?_) (fun hc => ?_)
  · replace hw := hw.1 hc
    refine G_aload_n (pc := 20) (i := 0) hC dX3_length_20 rfl rfl ?_
    refine G_iconst (pc := 21) (v := 1) hC dX3_length_21 (by decide) ?_
    obtain ⟨hb, hw⟩ := hw
    refine G_callV (pc := 22) (n := 1) (C := "MergeWorkbenchModel") (b := a0) (As := [.int (1 : Int32)]) (rest := []) hC (m_X3_fails hJ hw) (lw_V q3573 q3575 qs52 q108 q3576) hd_X3_fails (by decide) (rcv (C := RX3) (T := TX3) (N := 61) hC hb rfl) rfl rfl (st_c cat_e (Nat.le_of_ble_eq_true rfl)) dX3_length_22 (kI fun x4 M3 hw => ?_)
    exact g_X3_length_25 hJ hC hQ hin  x4 M3 hw
  · replace hw := hw.2 hc
    refine G_aload_n (pc := 7) (i := 0) hC dX3_length_7 rfl rfl ?_
    refine G_aload_n (pc := 8) (i := 0) hC dX3_length_8 rfl rfl ?_
    refine G_getF (pc := 9) (ci := 2) (C := RX3) (T := TX3) (N := 61) (f := 2) hC rfl in_X3 (Nat.le_of_ble_eq_true rfl) q3376 (fun _ h => h) dX3_length_9 hw (fun x5 hw => ?_)
    refine G_iload_n (pc := 12) (i := 1) hC dX3_length_12 rfl rfl ?_
    refine G_iald (pc := 13) hC dX3_length_13 hw (fun x6 hw => ?_)
    obtain ⟨hb, hw⟩ := hw
    refine G_callV (pc := 14) (n := 1) (C := "MergeWorkbenchModel") (b := a0) (As := [.int x6]) (rest := []) hC (m_X3_done hJ hw) (lw_V q3581 q3583 qs54 q108 q3584) hd_X3_done (by decide) (rcv (C := RX3) (T := TX3) (N := 61) hC hb rfl) rfl rfl (st_c cat_e (Nat.le_of_ble_eq_true rfl)) dX3_length_14 (kI fun x8 M7 hw => ?_)
    refine G_goto (pc := 17) (tgt := 25) hC dX3_length_17 (by decide) ?_
    exact g_X3_length_25 hJ hC hQ hin  x8 M7 hw
def w_X3_line_52 (g : gT) (F : Nat) (a0 : Nat) (p1 : Int32) (p2 : Int32) (Q : Int32 → hM → Prop) (s0 : Int32) (M : hM) : Prop :=
  Q s0 M
def w_X3_line (g : gT) (F : Nat) (a0 : Nat) (p1 : Int32) (p2 : Int32) (M : hM) (Q : Int32 → hM → Prop) : Prop :=
  w_X3_isRegister g F p1 M (fun x2 M1 => ((¬ x2 = 0 → gF M1 (some a0) 2 2 fun x3 => aI M1 x3 0 p1 fun x4 => w_X3_in g F p2 (0 : Int32) (x4 - (1 : Int32)) M1 (fun x6 M5 => ((x6 = 0 → (isC M5 a0 2 ∧ w_X3_fails g F a0 (2 : Int32) M5 (fun x8 M7 => w_X3_line_52 g F a0 p1 p2 Q x8 M7))) ∧ (¬ (x6 = 0) → gF M5 (some a0) 2 1 fun x9 => aI M5 x9 0 (((24 : Int32) * p1) + p2) fun x10 => (isC M5 a0 2 ∧ w_X3_done g F a0 x10 M5 (fun x12 M11 => w_X3_line_52 g F a0 p1 p2 Q x12 M11)))))) ∧ (x2 = 0 → (isC M1 a0 2 ∧ w_X3_fails g F a0 (1 : Int32) M1 (fun x14 M13 => Q x14 M13)))))
theorem g_X3_line_52 {k : kT} {F : Nat} {a0 : Nat} {p1 : Int32} {p2 : Int32} {Q : Int32 → hM → Prop} (hJ : JOK (kl k) (kg k)) (hC : CX k 3 cX3_line RX3 (some .int) 3 54) (hQ : isQ k (PI Q)) (hin : (kt k).name = "line") : ∀ (s0 : Int32) (M : hM), w_X3_line_52 (kg k) F a0 p1 p2 Q s0 M → GW k 3 M 52 [some (va_rf (some a0)), some (.int p1), some (.int p2)] [.int s0] := by
  intro s0 M hw
  exact G_iret (pc := 52) hC rfl hQ dX3_line_52 hw
theorem m_X3_line {l : Launch} {g : gT} {F : Nat} {a0 : Nat} {p1 : Int32} {p2 : Int32} {M : hM} {Q : Int32 → hM → Prop} (hJ : JOK l g) (hw : w_X3_line g F a0 p1 p2 M Q) : MG l g yX3_line (ws_ yX3_line cX3_line 3 (some .int)) 3 54 [va_rf (some a0), .int p1, .int p2] M (PI Q) := by
  refine MG_of hJ.2.1 (by decide) (cat_r (cat_i (cat_i cat_e))) (Nat.le_of_ble_eq_true rfl) (fun k hl hg hin hQ hC => ?_)
  subst hl hg
  show GW k 3 M 0 [some (va_rf (some a0)), some (.int p1), some (.int p2)] []
  refine G_iload_n (pc := 0) (i := 1) hC dX3_line_0 rfl rfl ?_
  refine G_callS (pc := 1) (n := 1) (As := [.int p1]) (rest := []) hC (m_X3_isRegister hJ hw) (lw_S q3567 q3568 q108 q3569) hd_X3_isRegister.2 (by decide) rfl rfl (st_c cat_e (Nat.le_of_ble_eq_true rfl)) dX3_line_1 (kI fun x2 M1 hw => ?_)
  refine G_if_ne (pc := 4) (tgt := 13) hC dX3_line_4 (by decide) (fun hc => ?_) (fun hc => ?_)
  · replace hw := hw.1 hc
    refine G_iload_n (pc := 13) (i := 2) hC dX3_line_13 rfl rfl ?_
    refine G_iconst (pc := 14) (v := 0) hC dX3_line_14 (by decide) ?_
    refine G_aload_n (pc := 15) (i := 0) hC dX3_line_15 rfl rfl ?_
    refine G_getF (pc := 16) (ci := 2) (C := RX3) (T := TX3) (N := 61) (f := 2) hC rfl in_X3 (Nat.le_of_ble_eq_true rfl) q3376 (fun _ h => h) dX3_line_16 hw (fun x3 hw => ?_)
    refine G_iload_n (pc := 19) (i := 1) hC dX3_line_19 rfl rfl ?_
    refine G_iald (pc := 20) hC dX3_line_20 hw (fun x4 hw => ?_)
    refine G_iconst (pc := 21) (v := 1) hC dX3_line_21 (by decide) ?_
    refine G_isub (pc := 22) hC dX3_line_22 ?_
    refine G_callS (pc := 23) (n := 3) (As := [.int p2, .int (0 : Int32), .int (x4 - (1 : Int32))]) (rest := []) hC (m_X3_in hJ hw) (lw_S q3570 q3571 q108 q3572) hd_X3_in.2 (by decide) rfl rfl (st_c cat_e (Nat.le_of_ble_eq_true rfl)) dX3_line_23 (kI fun x6 M5 hw => ?_)
    refine G_if_eq (pc := 26) (tgt := 47) hC dX3_line_26 (by decide) (fun hc => ?_) (fun hc => ?_)
    · replace hw := hw.1 hc
      refine G_aload_n (pc := 47) (i := 0) hC dX3_line_47 rfl rfl ?_
      refine G_iconst (pc := 48) (v := 2) hC dX3_line_48 (by decide) ?_
      obtain ⟨hb, hw⟩ := hw
      refine G_callV (pc := 49) (n := 1) (C := "MergeWorkbenchModel") (b := a0) (As := [.int (2 : Int32)]) (rest := []) hC (m_X3_fails hJ hw) (lw_V q3573 q3575 qs52 q108 q3576) hd_X3_fails (by decide) (rcv (C := RX3) (T := TX3) (N := 61) hC hb rfl) rfl rfl (st_c cat_e (Nat.le_of_ble_eq_true rfl)) dX3_line_49 (kI fun x8 M7 hw => ?_)
      exact g_X3_line_52 hJ hC hQ hin  x8 M7 hw
    · replace hw := hw.2 hc
      refine G_aload_n (pc := 29) (i := 0) hC dX3_line_29 rfl rfl ?_
      refine G_aload_n (pc := 30) (i := 0) hC dX3_line_30 rfl rfl ?_
      refine G_getF (pc := 31) (ci := 2) (C := RX3) (T := TX3) (N := 61) (f := 1) hC rfl in_X3 (Nat.le_of_ble_eq_true rfl) q3375 (fun _ h => h) dX3_line_31 hw (fun x9 hw => ?_)
      refine G_bipush (pc := 34) (v := 24) hC dX3_line_34 (by decide) ?_
      refine G_iload_n (pc := 36) (i := 1) hC dX3_line_36 rfl rfl ?_
      refine G_imul (pc := 37) hC dX3_line_37 ?_
      refine G_iload_n (pc := 38) (i := 2) hC dX3_line_38 rfl rfl ?_
      refine G_iadd (pc := 39) hC dX3_line_39 ?_
      refine G_iald (pc := 40) hC dX3_line_40 hw (fun x10 hw => ?_)
      obtain ⟨hb, hw⟩ := hw
      refine G_callV (pc := 41) (n := 1) (C := "MergeWorkbenchModel") (b := a0) (As := [.int x10]) (rest := []) hC (m_X3_done hJ hw) (lw_V q3581 q3583 qs54 q108 q3584) hd_X3_done (by decide) (rcv (C := RX3) (T := TX3) (N := 61) hC hb rfl) rfl rfl (st_c cat_e (Nat.le_of_ble_eq_true rfl)) dX3_line_41 (kI fun x12 M11 hw => ?_)
      refine G_goto (pc := 44) (tgt := 52) hC dX3_line_44 (by decide) ?_
      exact g_X3_line_52 hJ hC hQ hin  x12 M11 hw
  · replace hw := hw.2 hc
    refine G_aload_n (pc := 7) (i := 0) hC dX3_line_7 rfl rfl ?_
    refine G_iconst (pc := 8) (v := 1) hC dX3_line_8 (by decide) ?_
    obtain ⟨hb, hw⟩ := hw
    refine G_callV (pc := 9) (n := 1) (C := "MergeWorkbenchModel") (b := a0) (As := [.int (1 : Int32)]) (rest := []) hC (m_X3_fails hJ hw) (lw_V q3573 q3575 qs52 q108 q3576) hd_X3_fails (by decide) (rcv (C := RX3) (T := TX3) (N := 61) hC hb rfl) rfl rfl (st_c cat_e (Nat.le_of_ble_eq_true rfl)) dX3_line_9 (kI fun x14 M13 hw => ?_)
    exact G_iret (pc := 12) hC rfl hQ dX3_line_12 hw
def w_X3_holds_10 (g : gT) (F : Nat) (a0 : Nat) (p1 : Int32) (p2 : Option Nat) (p3 : Int32) (Q : hM → Prop) : Nat → Int32 → hM → Prop
  | 0, _, _ => False
  | n + 1, v4, M => ((p3 ≤ v4 → Q M) ∧ (¬ (p3 ≤ v4) → gF M (some a0) 2 1 fun x1 => aI M p2 0 v4 fun x2 => sI M x1 0 (((24 : Int32) * p1) + v4) x2 fun M3 => w_X3_holds_10 g F a0 p1 p2 p3 Q n (v4 + (1 : Int32)) M3))
def w_X3_holds (g : gT) (F : Nat) (a0 : Nat) (p1 : Int32) (p2 : Option Nat) (p3 : Int32) (M : hM) (Q : hM → Prop) : Prop :=
  gF M (some a0) 2 2 fun x1 => sI M x1 0 p1 p3 fun M2 => w_X3_holds_10 g F a0 p1 p2 p3 Q F (0 : Int32) M2
theorem g_X3_holds_10 {k : kT} {F : Nat} {a0 : Nat} {p1 : Int32} {p2 : Option Nat} {p3 : Int32} {Q : hM → Prop} (hJ : JOK (kl k) (kg k)) (hC : CX k 5 cX3_holds RX3 none 1 12) (hQ : isQ k (PU Q)) (hin : (kt k).name = "holds") : ∀ (n : Nat) (v4 : Int32) (M : hM), w_X3_holds_10 (kg k) F a0 p1 p2 p3 Q n v4 M → GW k 5 M 10 [some (va_rf (some a0)), some (.int p1), some (va_rf p2), some (.int p3), some (.int v4)] [] := by
  intro n
  induction n with
  | zero =>
    intro v4 M hw
    exact hw.elim
  | succ n ih =>
    intro v4 M hw
    refine G_iload (pc := 10) (i := 4) hC dX3_holds_10 rfl ?_
    refine G_iload_n (pc := 12) (i := 3) hC dX3_holds_12 rfl rfl ?_
    refine G_icmp_ge (pc := 13) (tgt := 38) hC dX3_holds_13 (by decide) (fun hc => ?_) (fun hc => ?_)
    · replace hw := hw.1 hc
      exact G_ret (pc := 38) hC hQ dX3_holds_38 hw
    · replace hw := hw.2 hc
      refine G_aload_n (pc := 16) (i := 0) hC dX3_holds_16 rfl rfl ?_
      refine G_getF (pc := 17) (ci := 2) (C := RX3) (T := TX3) (N := 61) (f := 1) hC rfl in_X3 (Nat.le_of_ble_eq_true rfl) q3375 (fun _ h => h) dX3_holds_17 hw (fun x1 hw => ?_)
      refine G_bipush (pc := 20) (v := 24) hC dX3_holds_20 (by decide) ?_
      refine G_iload_n (pc := 22) (i := 1) hC dX3_holds_22 rfl rfl ?_
      refine G_imul (pc := 23) hC dX3_holds_23 ?_
      refine G_iload (pc := 24) (i := 4) hC dX3_holds_24 rfl ?_
      refine G_iadd (pc := 26) hC dX3_holds_26 ?_
      refine G_aload_n (pc := 27) (i := 2) hC dX3_holds_27 rfl rfl ?_
      refine G_iload (pc := 28) (i := 4) hC dX3_holds_28 rfl ?_
      refine G_iald (pc := 30) hC dX3_holds_30 hw (fun x2 hw => ?_)
      refine G_iast (pc := 31) hC dX3_holds_31 hw (fun M3 hw => ?_)
      refine G_iinc (pc := 32) (i := 4) (v := (v4 + (1 : Int32))) (lw := [some (va_rf (some a0)), some (.int p1), some (va_rf p2), some (.int p3), some (.int (v4 + (1 : Int32)))]) hC dX3_holds_32 rfl (Nat.le_of_ble_eq_true rfl) rfl rfl ?_
      refine G_goto (pc := 35) (tgt := 10) hC dX3_holds_35 (by decide) ?_
      exact ih (v4 + (1 : Int32)) M3 hw
theorem m_X3_holds {l : Launch} {g : gT} {F : Nat} {a0 : Nat} {p1 : Int32} {p2 : Option Nat} {p3 : Int32} {M : hM} {Q : hM → Prop} (hJ : JOK l g) (hw : w_X3_holds g F a0 p1 p2 p3 M Q) : MG l g yX3_holds (ws_ yX3_holds cX3_holds 5 none) 1 12 [va_rf (some a0), .int p1, va_rf p2, .int p3] M (PU Q) := by
  refine MG_of hJ.2.1 (by decide) (cat_r (cat_i (cat_r (cat_i cat_e)))) (Nat.le_of_ble_eq_true rfl) (fun k hl hg hin hQ hC => ?_)
  subst hl hg
  show GW k 5 M 0 [some (va_rf (some a0)), some (.int p1), some (va_rf p2), some (.int p3), none] []
  refine G_aload_n (pc := 0) (i := 0) hC dX3_holds_0 rfl rfl ?_
  refine G_getF (pc := 1) (ci := 2) (C := RX3) (T := TX3) (N := 61) (f := 2) hC rfl in_X3 (Nat.le_of_ble_eq_true rfl) q3376 (fun _ h => h) dX3_holds_1 hw (fun x1 hw => ?_)
  refine G_iload_n (pc := 4) (i := 1) hC dX3_holds_4 rfl rfl ?_
  refine G_iload_n (pc := 5) (i := 3) hC dX3_holds_5 rfl rfl ?_
  refine G_iast (pc := 6) hC dX3_holds_6 hw (fun M2 hw => ?_)
  refine G_iconst (pc := 7) (v := 0) hC dX3_holds_7 (by decide) ?_
  refine G_istore (pc := 8) (i := 4) (lw := [some (va_rf (some a0)), some (.int p1), some (va_rf p2), some (.int p3), some (.int (0 : Int32))]) hC dX3_holds_8 (Nat.le_of_ble_eq_true rfl) rfl ?_
  exact g_X3_holds_10 hJ hC hQ hin _ (0 : Int32) M2 hw
theorem hd_X3_holds : yX3_holds.cls = "MergeWorkbenchModel" ∧ yX3_holds.cls ≠ "java/lang/invoke/MethodHandle" ∧ yX3_holds.cls ≠ "java/lang/invoke/VarHandle" ∧ (parseMethodDescriptor yX3_holds.desc).map (fun d => d.parameters.length) = some 3 := by decide +kernel
def w_X3_copy_14 (g : gT) (F : Nat) (a0 : Nat) (p1 : Int32) (p2 : Int32) (Q : Int32 → hM → Prop) (M : hM) : Prop :=
  (isC M a0 2 ∧ w_X3_fails g F a0 (1 : Int32) M (fun x2 M1 => Q x2 M1))
def w_X3_copy_27 (g : gT) (F : Nat) (a0 : Nat) (p1 : Int32) (p2 : Int32) (Q : Int32 → hM → Prop) : Nat → Int32 → hM → Prop
  | 0, _, _ => False
  | n + 1, v3, M => gF M (some a0) 2 2 fun x1 => aI M x1 0 p1 fun x2 => ((x2 ≤ v3 → gF M (some a0) 2 15 fun x3 => gF M (some a0) 2 2 fun x4 => aI M x4 0 p1 fun x5 => (isC M a0 2 ∧ w_X3_holds g F a0 p2 x3 x5 M (fun M6 => gF M6 (some a0) 2 2 fun x7 => aI M6 x7 0 p2 fun x8 => (isC M6 a0 2 ∧ w_X3_done g F a0 x8 M6 (fun x10 M9 => Q x10 M9))))) ∧ (¬ (x2 ≤ v3) → gF M (some a0) 2 15 fun x11 => gF M (some a0) 2 1 fun x12 => aI M x12 0 (((24 : Int32) * p1) + v3) fun x13 => sI M x11 0 v3 x13 fun M14 => w_X3_copy_27 g F a0 p1 p2 Q n (v3 + (1 : Int32)) M14))
def w_X3_copy (g : gT) (F : Nat) (a0 : Nat) (p1 : Int32) (p2 : Int32) (M : hM) (Q : Int32 → hM → Prop) : Prop :=
  w_X3_isRegister g F p1 M (fun x2 M1 => ((x2 = 0 → w_X3_copy_14 g F a0 p1 p2 Q M1) ∧ (¬ (x2 = 0) → w_X3_isRegister g F p2 M1 (fun x4 M3 => ((¬ x4 = 0 → (isC M3 a0 2 ∧ w_X3_remembers g F a0 p2 M3 (fun M5 => w_X3_copy_27 g F a0 p1 p2 Q F (0 : Int32) M5))) ∧ (x4 = 0 → w_X3_copy_14 g F a0 p1 p2 Q M3))))))
theorem g_X3_copy_14 {k : kT} {F : Nat} {a0 : Nat} {p1 : Int32} {p2 : Int32} {Q : Int32 → hM → Prop} (hJ : JOK (kl k) (kg k)) (hC : CX k 4 cX3_copy RX3 (some .int) 3 54) (hQ : isQ k (PI Q)) (hin : (kt k).name = "copy") : ∀  (M : hM), w_X3_copy_14 (kg k) F a0 p1 p2 Q  M → GW k 4 M 14 [some (va_rf (some a0)), some (.int p1), some (.int p2), none] [] := by
  intro  M hw
  refine G_aload_n (pc := 14) (i := 0) hC dX3_copy_14 rfl rfl ?_
  refine G_iconst (pc := 15) (v := 1) hC dX3_copy_15 (by decide) ?_
  obtain ⟨hb, hw⟩ := hw
  refine G_callV (pc := 16) (n := 1) (C := "MergeWorkbenchModel") (b := a0) (As := [.int (1 : Int32)]) (rest := []) hC (m_X3_fails hJ hw) (lw_V q3573 q3575 qs52 q108 q3576) hd_X3_fails (by decide) (rcv (C := RX3) (T := TX3) (N := 61) hC hb rfl) rfl rfl (st_c cat_e (Nat.le_of_ble_eq_true rfl)) dX3_copy_16 (kI fun x2 M1 hw => ?_)
  exact G_iret (pc := 19) hC rfl hQ dX3_copy_19 hw
theorem g_X3_copy_27 {k : kT} {F : Nat} {a0 : Nat} {p1 : Int32} {p2 : Int32} {Q : Int32 → hM → Prop} (hJ : JOK (kl k) (kg k)) (hC : CX k 4 cX3_copy RX3 (some .int) 3 54) (hQ : isQ k (PI Q)) (hin : (kt k).name = "copy") : ∀ (n : Nat) (v3 : Int32) (M : hM), w_X3_copy_27 (kg k) F a0 p1 p2 Q n v3 M → GW k 4 M 27 [some (va_rf (some a0)), some (.int p1), some (.int p2), some (.int v3)] [] := by
  intro n
  induction n with
  | zero =>
    intro v3 M hw
    exact hw.elim
  | succ n ih =>
    intro v3 M hw
    refine G_iload_n (pc := 27) (i := 3) hC dX3_copy_27 rfl rfl ?_
    refine G_aload_n (pc := 28) (i := 0) hC dX3_copy_28 rfl rfl ?_
    refine G_getF (pc := 29) (ci := 2) (C := RX3) (T := TX3) (N := 61) (f := 2) hC rfl in_X3 (Nat.le_of_ble_eq_true rfl) q3376 (fun _ h => h) dX3_copy_29 hw (fun x1 hw => ?_)
    refine G_iload_n (pc := 32) (i := 1) hC dX3_copy_32 rfl rfl ?_
    refine G_iald (pc := 33) hC dX3_copy_33 hw (fun x2 hw => ?_)
    refine G_icmp_ge (pc := 34) (tgt := 60) hC dX3_copy_34 (by decide) (fun hc => ?_) (fun hc => ?_)
    · replace hw := hw.1 hc
      refine G_aload_n (pc := 60) (i := 0) hC dX3_copy_60 rfl rfl ?_
      refine G_iload_n (pc := 61) (i := 2) hC dX3_copy_61 rfl rfl ?_
      refine G_aload_n (pc := 62) (i := 0) hC dX3_copy_62 rfl rfl ?_
      refine G_getF (pc := 63) (ci := 2) (C := RX3) (T := TX3) (N := 61) (f := 15) hC rfl in_X3 (Nat.le_of_ble_eq_true rfl) q3389 (fun _ h => h) dX3_copy_63 hw (fun x3 hw => ?_)
      refine G_aload_n (pc := 66) (i := 0) hC dX3_copy_66 rfl rfl ?_
      refine G_getF (pc := 67) (ci := 2) (C := RX3) (T := TX3) (N := 61) (f := 2) hC rfl in_X3 (Nat.le_of_ble_eq_true rfl) q3376 (fun _ h => h) dX3_copy_67 hw (fun x4 hw => ?_)
      refine G_iload_n (pc := 70) (i := 1) hC dX3_copy_70 rfl rfl ?_
      refine G_iald (pc := 71) hC dX3_copy_71 hw (fun x5 hw => ?_)
      obtain ⟨hb, hw⟩ := hw
      refine G_callV (pc := 72) (n := 3) (C := "MergeWorkbenchModel") (b := a0) (As := [.int p2, va_rf x3, .int x5]) (rest := []) hC (m_X3_holds hJ hw) (lw_V q3605 q3607 qs55 q108 q3608) hd_X3_holds (by decide) (rcv (C := RX3) (T := TX3) (N := 61) hC hb rfl) rfl rfl (st_c cat_e (Nat.le_of_ble_eq_true rfl)) dX3_copy_72 (kU fun M6 hw => ?_)
      refine G_aload_n (pc := 75) (i := 0) hC dX3_copy_75 rfl rfl ?_
      refine G_aload_n (pc := 76) (i := 0) hC dX3_copy_76 rfl rfl ?_
      refine G_getF (pc := 77) (ci := 2) (C := RX3) (T := TX3) (N := 61) (f := 2) hC rfl in_X3 (Nat.le_of_ble_eq_true rfl) q3376 (fun _ h => h) dX3_copy_77 hw (fun x7 hw => ?_)
      refine G_iload_n (pc := 80) (i := 2) hC dX3_copy_80 rfl rfl ?_
      refine G_iald (pc := 81) hC dX3_copy_81 hw (fun x8 hw => ?_)
      obtain ⟨hb, hw⟩ := hw
      refine G_callV (pc := 82) (n := 1) (C := "MergeWorkbenchModel") (b := a0) (As := [.int x8]) (rest := []) hC (m_X3_done hJ hw) (lw_V q3581 q3583 qs54 q108 q3584) hd_X3_done (by decide) (rcv (C := RX3) (T := TX3) (N := 61) hC hb rfl) rfl rfl (st_c cat_e (Nat.le_of_ble_eq_true rfl)) dX3_copy_82 (kI fun x10 M9 hw => ?_)
      exact G_iret (pc := 85) hC rfl hQ dX3_copy_85 hw
    · replace hw := hw.2 hc
      refine G_aload_n (pc := 37) (i := 0) hC dX3_copy_37 rfl rfl ?_
      refine G_getF (pc := 38) (ci := 2) (C := RX3) (T := TX3) (N := 61) (f := 15) hC rfl in_X3 (Nat.le_of_ble_eq_true rfl) q3389 (fun _ h => h) dX3_copy_38 hw (fun x11 hw => ?_)
      refine G_iload_n (pc := 41) (i := 3) hC dX3_copy_41 rfl rfl ?_
      refine G_aload_n (pc := 42) (i := 0) hC dX3_copy_42 rfl rfl ?_
      refine G_getF (pc := 43) (ci := 2) (C := RX3) (T := TX3) (N := 61) (f := 1) hC rfl in_X3 (Nat.le_of_ble_eq_true rfl) q3375 (fun _ h => h) dX3_copy_43 hw (fun x12 hw => ?_)
      refine G_bipush (pc := 46) (v := 24) hC dX3_copy_46 (by decide) ?_
      refine G_iload_n (pc := 48) (i := 1) hC dX3_copy_48 rfl rfl ?_
      refine G_imul (pc := 49) hC dX3_copy_49 ?_
      refine G_iload_n (pc := 50) (i := 3) hC dX3_copy_50 rfl rfl ?_
      refine G_iadd (pc := 51) hC dX3_copy_51 ?_
      refine G_iald (pc := 52) hC dX3_copy_52 hw (fun x13 hw => ?_)
      refine G_iast (pc := 53) hC dX3_copy_53 hw (fun M14 hw => ?_)
      refine G_iinc (pc := 54) (i := 3) (v := (v3 + (1 : Int32))) (lw := [some (va_rf (some a0)), some (.int p1), some (.int p2), some (.int (v3 + (1 : Int32)))]) hC dX3_copy_54 rfl (Nat.le_of_ble_eq_true rfl) rfl rfl ?_
      refine G_goto (pc := 57) (tgt := 27) hC dX3_copy_57 (by decide) ?_
      exact ih (v3 + (1 : Int32)) M14 hw
theorem m_X3_copy {l : Launch} {g : gT} {F : Nat} {a0 : Nat} {p1 : Int32} {p2 : Int32} {M : hM} {Q : Int32 → hM → Prop} (hJ : JOK l g) (hw : w_X3_copy g F a0 p1 p2 M Q) : MG l g yX3_copy (ws_ yX3_copy cX3_copy 4 (some .int)) 3 54 [va_rf (some a0), .int p1, .int p2] M (PI Q) := by
  refine MG_of hJ.2.1 (by decide) (cat_r (cat_i (cat_i cat_e))) (Nat.le_of_ble_eq_true rfl) (fun k hl hg hin hQ hC => ?_)
  subst hl hg
  show GW k 4 M 0 [some (va_rf (some a0)), some (.int p1), some (.int p2), none] []
  refine G_iload_n (pc := 0) (i := 1) hC dX3_copy_0 rfl rfl ?_
  refine G_callS (pc := 1) (n := 1) (As := [.int p1]) (rest := []) hC (m_X3_isRegister hJ hw) (lw_S q3567 q3568 q108 q3569) hd_X3_isRegister.2 (by decide) rfl rfl (st_c cat_e (Nat.le_of_ble_eq_true rfl)) dX3_copy_1 (kI fun x2 M1 hw => ?_)
  refine G_if_eq (pc := 4) (tgt := 14) hC dX3_copy_4 (by decide) (fun hc => ?_) (fun hc => ?_)
  · replace hw := hw.1 hc
    exact g_X3_copy_14 hJ hC hQ hin   M1 hw
  · replace hw := hw.2 hc
    refine G_iload_n (pc := 7) (i := 2) hC dX3_copy_7 rfl rfl ?_
    refine G_callS (pc := 8) (n := 1) (As := [.int p2]) (rest := []) hC (m_X3_isRegister hJ hw) (lw_S q3567 q3568 q108 q3569) hd_X3_isRegister.2 (by decide) rfl rfl (st_c cat_e (Nat.le_of_ble_eq_true rfl)) dX3_copy_8 (kI fun x4 M3 hw => ?_)
    refine G_if_ne (pc := 11) (tgt := 20) hC dX3_copy_11 (by decide) (fun hc => ?_) (fun hc => ?_)
    · replace hw := hw.1 hc
      refine G_aload_n (pc := 20) (i := 0) hC dX3_copy_20 rfl rfl ?_
      refine G_iload_n (pc := 21) (i := 2) hC dX3_copy_21 rfl rfl ?_
      obtain ⟨hb, hw⟩ := hw
      refine G_callV (pc := 22) (n := 1) (C := "MergeWorkbenchModel") (b := a0) (As := [.int p2]) (rest := []) hC (m_X3_remembers hJ hw) (lw_V q3577 q3579 qs53 q108 q3580) hd_X3_remembers (by decide) (rcv (C := RX3) (T := TX3) (N := 61) hC hb rfl) rfl rfl (st_c cat_e (Nat.le_of_ble_eq_true rfl)) dX3_copy_22 (kU fun M5 hw => ?_)
      refine G_iconst (pc := 25) (v := 0) hC dX3_copy_25 (by decide) ?_
      refine G_istore_n (pc := 26) (i := 3) (lw := [some (va_rf (some a0)), some (.int p1), some (.int p2), some (.int (0 : Int32))]) hC dX3_copy_26 rfl (Nat.le_of_ble_eq_true rfl) rfl ?_
      exact g_X3_copy_27 hJ hC hQ hin _ (0 : Int32) M5 hw
    · replace hw := hw.2 hc
      exact g_X3_copy_14 hJ hC hQ hin   M3 hw
def w_X3_not (g : gT) (F : Nat) (a0 : Nat) (p1 : Int32) (M : hM) (Q : Int32 → hM → Prop) : Prop :=
  pV M (some a0) 2 0 (.int p1) fun M1 => Q (0 : Int32) M1
theorem m_X3_not {l : Launch} {g : gT} {F : Nat} {a0 : Nat} {p1 : Int32} {M : hM} {Q : Int32 → hM → Prop} (hJ : JOK l g) (hw : w_X3_not g F a0 p1 M Q) : MG l g yX3_not (ws_ yX3_not cX3_not 2 (some .boolean)) 1 12 [va_rf (some a0), .int p1] M (PI Q) := by
  refine MG_of hJ.2.1 (by decide) (cat_r (cat_i cat_e)) (Nat.le_of_ble_eq_true rfl) (fun k hl hg hin hQ hC => ?_)
  subst hl hg
  show GW k 2 M 0 [some (va_rf (some a0)), some (.int p1)] []
  refine G_aload_n (pc := 0) (i := 0) hC dX3_not_0 rfl rfl ?_
  refine G_iload_n (pc := 1) (i := 1) hC dX3_not_1 rfl rfl ?_
  refine G_put (pc := 2) (ci := 2) (C := RX3) (T := TX3) (N := 61) (f := 0) tyX3 hC rfl in_X3 tyX3_ok nmX3 (Nat.le_of_ble_eq_true rfl) q3374 (fun _ h => h) rfl rfl rfl dX3_not_2 hw (fun M1 hw => ?_)
  refine G_iconst (pc := 5) (v := 0) hC dX3_not_5 (by decide) ?_
  exact G_iret (pc := 6) hC rfl hQ dX3_not_6 hw
def w_X3_so (g : gT) (F : Nat) (a0 : Nat) (p1 : Int32) (M : hM) (Q : Int32 → hM → Prop) : Prop :=
  pV M (some a0) 2 0 (.int (0 : Int32)) fun M1 => ((p1 = 0 ∨ p1 = 1) ∧ Q p1 M1)
theorem m_X3_so {l : Launch} {g : gT} {F : Nat} {a0 : Nat} {p1 : Int32} {M : hM} {Q : Int32 → hM → Prop} (hJ : JOK l g) (hw : w_X3_so g F a0 p1 M Q) : MG l g yX3_so (ws_ yX3_so cX3_so 2 (some .boolean)) 1 12 [va_rf (some a0), .int p1] M (PI Q) := by
  refine MG_of hJ.2.1 (by decide) (cat_r (cat_i cat_e)) (Nat.le_of_ble_eq_true rfl) (fun k hl hg hin hQ hC => ?_)
  subst hl hg
  show GW k 2 M 0 [some (va_rf (some a0)), some (.int p1)] []
  refine G_aload_n (pc := 0) (i := 0) hC dX3_so_0 rfl rfl ?_
  refine G_iconst (pc := 1) (v := 0) hC dX3_so_1 (by decide) ?_
  refine G_put (pc := 2) (ci := 2) (C := RX3) (T := TX3) (N := 61) (f := 0) tyX3 hC rfl in_X3 tyX3_ok nmX3 (Nat.le_of_ble_eq_true rfl) q3374 (fun _ h => h) rfl rfl rfl dX3_so_2 hw (fun M1 hw => ?_)
  refine G_iload_n (pc := 5) (i := 1) hC dX3_so_5 rfl rfl ?_
  obtain ⟨hz, hw⟩ := hw
  exact G_iret (pc := 6) hC (nz_n hz) hQ dX3_so_6 hw
theorem hd_X3_not : yX3_not.cls = "MergeWorkbenchModel" ∧ yX3_not.cls ≠ "java/lang/invoke/MethodHandle" ∧ yX3_not.cls ≠ "java/lang/invoke/VarHandle" ∧ (parseMethodDescriptor yX3_not.desc).map (fun d => d.parameters.length) = some 1 := by decide +kernel
theorem hd_X3_so : yX3_so.cls = "MergeWorkbenchModel" ∧ yX3_so.cls ≠ "java/lang/invoke/MethodHandle" ∧ yX3_so.cls ≠ "java/lang/invoke/VarHandle" ∧ (parseMethodDescriptor yX3_so.desc).map (fun d => d.parameters.length) = some 1 := by decide +kernel
def w_X3_isSame_14 (g : gT) (F : Nat) (a0 : Nat) (p1 : Int32) (p2 : Int32) (Q : Int32 → hM → Prop) (M : hM) : Prop :=
  (isC M a0 2 ∧ w_X3_not g F a0 (1 : Int32) M (fun x2 M1 => ((x2 = 0 ∨ x2 = 1) ∧ Q x2 M1)))
def w_X3_isSame_98 (g : gT) (F : Nat) (a0 : Nat) (p1 : Int32) (p2 : Int32) (Q : Int32 → hM → Prop) (v3 : Int32) (M : hM) : Prop :=
  (isC M a0 2 ∧ w_X3_so g F a0 v3 M (fun x2 M1 => ((x2 = 0 ∨ x2 = 1) ∧ Q x2 M1)))
def w_X3_isSame_91 (g : gT) (F : Nat) (a0 : Nat) (p1 : Int32) (p2 : Int32) (Q : Int32 → hM → Prop) (K44 : Int32 → Int32 → hM → Prop) (v4 : Int32) (s0 : Int32) (M : hM) : Prop :=
  K44 s0 (v4 + (1 : Int32)) M
def w_X3_isSame_44 (g : gT) (F : Nat) (a0 : Nat) (p1 : Int32) (p2 : Int32) (Q : Int32 → hM → Prop) : Nat → Int32 → Int32 → hM → Prop
  | 0, _, _, _ => False
  | n + 1, v3, v4, M => gF M (some a0) 2 2 fun x1 => aI M x1 0 p1 fun x2 => ((x2 ≤ v4 → w_X3_isSame_98 g F a0 p1 p2 Q v3 M) ∧ (¬ (x2 ≤ v4) → ((v3 = 0 → w_X3_isSame_98 g F a0 p1 p2 Q v3 M) ∧ (¬ (v3 = 0) → gF M (some a0) 2 1 fun x3 => aI M x3 0 (((24 : Int32) * p1) + v4) fun x4 => gF M (some a0) 2 1 fun x5 => aI M x5 0 (((24 : Int32) * p2) + v4) fun x6 => ((¬ x4 = x6 → w_X3_isSame_91 g F a0 p1 p2 Q (fun v3 v4 M => w_X3_isSame_44 g F a0 p1 p2 Q n v3 v4 M) v4 (0 : Int32) M) ∧ (x4 = x6 → w_X3_isSame_91 g F a0 p1 p2 Q (fun v3 v4 M => w_X3_isSame_44 g F a0 p1 p2 Q n v3 v4 M) v4 (1 : Int32) M))))))
def w_X3_isSame_40 (g : gT) (F : Nat) (a0 : Nat) (p1 : Int32) (p2 : Int32) (Q : Int32 → hM → Prop) (s0 : Int32) (M : hM) : Prop :=
  w_X3_isSame_44 g F a0 p1 p2 Q F s0 (0 : Int32) M
def w_X3_isSame (g : gT) (F : Nat) (a0 : Nat) (p1 : Int32) (p2 : Int32) (M : hM) (Q : Int32 → hM → Prop) : Prop :=
  w_X3_isRegister g F p1 M (fun x2 M1 => ((x2 = 0 → w_X3_isSame_14 g F a0 p1 p2 Q M1) ∧ (¬ (x2 = 0) → w_X3_isRegister g F p2 M1 (fun x4 M3 => ((¬ x4 = 0 → gF M3 (some a0) 2 2 fun x5 => aI M3 x5 0 p1 fun x6 => gF M3 (some a0) 2 2 fun x7 => aI M3 x7 0 p2 fun x8 => ((¬ x6 = x8 → w_X3_isSame_40 g F a0 p1 p2 Q (0 : Int32) M3) ∧ (x6 = x8 → w_X3_isSame_40 g F a0 p1 p2 Q (1 : Int32) M3))) ∧ (x4 = 0 → w_X3_isSame_14 g F a0 p1 p2 Q M3))))))
theorem g_X3_isSame_14 {k : kT} {F : Nat} {a0 : Nat} {p1 : Int32} {p2 : Int32} {Q : Int32 → hM → Prop} (hJ : JOK (kl k) (kg k)) (hC : CX k 5 cX3_isSame RX3 (some .boolean) 3 54) (hQ : isQ k (PI Q)) (hin : (kt k).name = "isSame") : ∀  (M : hM), w_X3_isSame_14 (kg k) F a0 p1 p2 Q  M → GW k 5 M 14 [some (va_rf (some a0)), some (.int p1), some (.int p2), none, none] [] := by
  intro  M hw
  refine G_aload_n (pc := 14) (i := 0) hC dX3_isSame_14 rfl rfl ?_
  refine G_iconst (pc := 15) (v := 1) hC dX3_isSame_15 (by decide) ?_
  obtain ⟨hb, hw⟩ := hw
  refine G_callV (pc := 16) (n := 1) (C := "MergeWorkbenchModel") (b := a0) (As := [.int (1 : Int32)]) (rest := []) hC (m_X3_not hJ hw) (lw_V q3613 q3615 qs56 q108 q3616) hd_X3_not (by decide) (rcv (C := RX3) (T := TX3) (N := 61) hC hb rfl) rfl rfl (st_c cat_e (Nat.le_of_ble_eq_true rfl)) dX3_isSame_16 (kI fun x2 M1 hw => ?_)
  obtain ⟨hz, hw⟩ := hw
  exact G_iret (pc := 19) hC (nz_n hz) hQ dX3_isSame_19 hw
theorem g_X3_isSame_98 {k : kT} {F : Nat} {a0 : Nat} {p1 : Int32} {p2 : Int32} {Q : Int32 → hM → Prop} (hJ : JOK (kl k) (kg k)) (hC : CX k 5 cX3_isSame RX3 (some .boolean) 3 54) (hQ : isQ k (PI Q)) (hin : (kt k).name = "isSame") : ∀ (v3 : Int32) (M : hM), w_X3_isSame_98 (kg k) F a0 p1 p2 Q v3 M → GW k 5 M 98 [some (va_rf (some a0)), some (.int p1), some (.int p2), some (.int v3), none] [] := by
  intro v3 M hw
  refine G_aload_n (pc := 98) (i := 0) hC dX3_isSame_98 rfl rfl ?_
  refine G_iload_n (pc := 99) (i := 3) hC dX3_isSame_99 rfl rfl ?_
  obtain ⟨hb, hw⟩ := hw
  refine G_callV (pc := 100) (n := 1) (C := "MergeWorkbenchModel") (b := a0) (As := [.int v3]) (rest := []) hC (m_X3_so hJ hw) (lw_V q3617 q3619 qs57 q108 q3620) hd_X3_so (by decide) (rcv (C := RX3) (T := TX3) (N := 61) hC hb rfl) rfl rfl (st_c cat_e (Nat.le_of_ble_eq_true rfl)) dX3_isSame_100 (kI fun x2 M1 hw => ?_)
  obtain ⟨hz, hw⟩ := hw
  exact G_iret (pc := 103) hC (nz_n hz) hQ dX3_isSame_103 hw
theorem g_X3_isSame_91 {k : kT} {F : Nat} {a0 : Nat} {p1 : Int32} {p2 : Int32} {Q : Int32 → hM → Prop} {K44 : Int32 → Int32 → hM → Prop} (hJ : JOK (kl k) (kg k)) (hC : CX k 5 cX3_isSame RX3 (some .boolean) 3 54) (hQ : isQ k (PI Q)) (hin : (kt k).name = "isSame") (hK44 : ∀ (v3 : Int32) (v4 : Int32) (M : hM), K44 v3 v4 M → GW k 5 M 44 [some (va_rf (some a0)), some (.int p1), some (.int p2), some (.int v3), some (.int v4)] []) : ∀ (v4 : Int32) (s0 : Int32) (M : hM), w_X3_isSame_91 (kg k) F a0 p1 p2 Q K44 v4 s0 M → GW k 5 M 91 [some (va_rf (some a0)), some (.int p1), some (.int p2), none, some (.int v4)] [.int s0] := by
  intro v4 s0 M hw
  refine G_istore_n (pc := 91) (i := 3) (lw := [some (va_rf (some a0)), some (.int p1), some (.int p2), some (.int s0), some (.int v4)]) hC dX3_isSame_91 rfl (Nat.le_of_ble_eq_true rfl) rfl ?_
  refine G_iinc (pc := 92) (i := 4) (v := (v4 + (1 : Int32))) (lw := [some (va_rf (some a0)), some (.int p1), some (.int p2), some (.int s0), some (.int (v4 + (1 : Int32)))]) hC dX3_isSame_92 rfl (Nat.le_of_ble_eq_true rfl) rfl rfl ?_
  refine G_goto (pc := 95) (tgt := 44) hC dX3_isSame_95 (by decide) ?_
  exact hK44 s0 (v4 + (1 : Int32)) M hw
theorem g_X3_isSame_44 {k : kT} {F : Nat} {a0 : Nat} {p1 : Int32} {p2 : Int32} {Q : Int32 → hM → Prop} (hJ : JOK (kl k) (kg k)) (hC : CX k 5 cX3_isSame RX3 (some .boolean) 3 54) (hQ : isQ k (PI Q)) (hin : (kt k).name = "isSame") : ∀ (n : Nat) (v3 : Int32) (v4 : Int32) (M : hM), w_X3_isSame_44 (kg k) F a0 p1 p2 Q n v3 v4 M → GW k 5 M 44 [some (va_rf (some a0)), some (.int p1), some (.int p2), some (.int v3), some (.int v4)] [] := by
  intro n
  induction n with
  | zero =>
    intro v3 v4 M hw
    exact hw.elim
  | succ n ih =>
    intro v3 v4 M hw
    refine G_iload (pc := 44) (i := 4) hC dX3_isSame_44 rfl ?_
    refine G_aload_n (pc := 46) (i := 0) hC dX3_isSame_46 rfl rfl ?_
    refine G_getF (pc := 47) (ci := 2) (C := RX3) (T := TX3) (N := 61) (f := 2) hC rfl in_X3 (Nat.le_of_ble_eq_true rfl) q3376 (fun _ h => h) dX3_isSame_47 hw (fun x1 hw => ?_)
    refine G_iload_n (pc := 50) (i := 1) hC dX3_isSame_50 rfl rfl ?_
    refine G_iald (pc := 51) hC dX3_isSame_51 hw (fun x2 hw => ?_)
    refine G_icmp_ge (pc := 52) (tgt := 98) hC dX3_isSame_52 (by decide) (fun hc => ?_) (fun hc => ?_)
    · replace hw := hw.1 hc
      refine G_loc (lv' := [some (va_rf (some a0)), some (.int p1), some (.int p2), some (.int v3), none]) ⟨Or.inr rfl, Or.inr rfl, Or.inr rfl, Or.inr rfl, Or.inl rfl, trivial⟩ ?_
      exact g_X3_isSame_98 hJ hC hQ hin  v3 M hw
    · replace hw := hw.2 hc
      refine G_iload_n (pc := 55) (i := 3) hC dX3_isSame_55 rfl rfl ?_
      refine G_if_eq (pc := 56) (tgt := 98) hC dX3_isSame_56 (by decide) (fun hc => ?_) (fun hc => ?_)
      · replace hw := hw.1 hc
        refine G_loc (lv' := [some (va_rf (some a0)), some (.int p1), some (.int p2), some (.int v3), none]) ⟨Or.inr rfl, Or.inr rfl, Or.inr rfl, Or.inr rfl, Or.inl rfl, trivial⟩ ?_
        exact g_X3_isSame_98 hJ hC hQ hin  v3 M hw
      · replace hw := hw.2 hc
        refine G_aload_n (pc := 59) (i := 0) hC dX3_isSame_59 rfl rfl ?_
        refine G_getF (pc := 60) (ci := 2) (C := RX3) (T := TX3) (N := 61) (f := 1) hC rfl in_X3 (Nat.le_of_ble_eq_true rfl) q3375 (fun _ h => h) dX3_isSame_60 hw (fun x3 hw => ?_)
        refine G_bipush (pc := 63) (v := 24) hC dX3_isSame_63 (by decide) ?_
        refine G_iload_n (pc := 65) (i := 1) hC dX3_isSame_65 rfl rfl ?_
        refine G_imul (pc := 66) hC dX3_isSame_66 ?_
        refine G_iload (pc := 67) (i := 4) hC dX3_isSame_67 rfl ?_
        refine G_iadd (pc := 69) hC dX3_isSame_69 ?_
        refine G_iald (pc := 70) hC dX3_isSame_70 hw (fun x4 hw => ?_)
        refine G_aload_n (pc := 71) (i := 0) hC dX3_isSame_71 rfl rfl ?_
        refine G_getF (pc := 72) (ci := 2) (C := RX3) (T := TX3) (N := 61) (f := 1) hC rfl in_X3 (Nat.le_of_ble_eq_true rfl) q3375 (fun _ h => h) dX3_isSame_72 hw (fun x5 hw => ?_)
        refine G_bipush (pc := 75) (v := 24) hC dX3_isSame_75 (by decide) ?_
        refine G_iload_n (pc := 77) (i := 2) hC dX3_isSame_77 rfl rfl ?_
        refine G_imul (pc := 78) hC dX3_isSame_78 ?_
        refine G_iload (pc := 79) (i := 4) hC dX3_isSame_79 rfl ?_
        refine G_iadd (pc := 81) hC dX3_isSame_81 ?_
        refine G_iald (pc := 82) hC dX3_isSame_82 hw (fun x6 hw => ?_)
        refine G_icmp_ne (pc := 83) (tgt := 90) hC dX3_isSame_83 (by decide) (fun hc => ?_) (fun hc => ?_)
        · replace hw := hw.1 hc
          refine G_iconst (pc := 90) (v := 0) hC dX3_isSame_90 (by decide) ?_
          refine G_loc (lv' := [some (va_rf (some a0)), some (.int p1), some (.int p2), none, some (.int v4)]) ⟨Or.inr rfl, Or.inr rfl, Or.inr rfl, Or.inl rfl, Or.inr rfl, trivial⟩ ?_
          exact g_X3_isSame_91 hJ hC hQ hin ih  v4 (0 : Int32) M hw
        · replace hw := hw.2 hc
          refine G_iconst (pc := 86) (v := 1) hC dX3_isSame_86 (by decide) ?_
          refine G_goto (pc := 87) (tgt := 91) hC dX3_isSame_87 (by decide) ?_
          refine G_loc (lv' := [some (va_rf (some a0)), some (.int p1), some (.int p2), none, some (.int v4)]) ⟨Or.inr rfl, Or.inr rfl, Or.inr rfl, Or.inl rfl, Or.inr rfl, trivial⟩ ?_
          exact g_X3_isSame_91 hJ hC hQ hin ih  v4 (1 : Int32) M hw
theorem g_X3_isSame_40 {k : kT} {F : Nat} {a0 : Nat} {p1 : Int32} {p2 : Int32} {Q : Int32 → hM → Prop} (hJ : JOK (kl k) (kg k)) (hC : CX k 5 cX3_isSame RX3 (some .boolean) 3 54) (hQ : isQ k (PI Q)) (hin : (kt k).name = "isSame") : ∀ (s0 : Int32) (M : hM), w_X3_isSame_40 (kg k) F a0 p1 p2 Q s0 M → GW k 5 M 40 [some (va_rf (some a0)), some (.int p1), some (.int p2), none, none] [.int s0] := by
  intro s0 M hw
  refine G_istore_n (pc := 40) (i := 3) (lw := [some (va_rf (some a0)), some (.int p1), some (.int p2), some (.int s0), none]) hC dX3_isSame_40 rfl (Nat.le_of_ble_eq_true rfl) rfl ?_
  refine G_iconst (pc := 41) (v := 0) hC dX3_isSame_41 (by decide) ?_
  refine G_istore (pc := 42) (i := 4) (lw := [some (va_rf (some a0)), some (.int p1), some (.int p2), some (.int s0), some (.int (0 : Int32))]) hC dX3_isSame_42 (Nat.le_of_ble_eq_true rfl) rfl ?_
  exact g_X3_isSame_44 hJ hC hQ hin _ s0 (0 : Int32) M hw
theorem m_X3_isSame {l : Launch} {g : gT} {F : Nat} {a0 : Nat} {p1 : Int32} {p2 : Int32} {M : hM} {Q : Int32 → hM → Prop} (hJ : JOK l g) (hw : w_X3_isSame g F a0 p1 p2 M Q) : MG l g yX3_isSame (ws_ yX3_isSame cX3_isSame 5 (some .boolean)) 3 54 [va_rf (some a0), .int p1, .int p2] M (PI Q) := by
  refine MG_of hJ.2.1 (by decide) (cat_r (cat_i (cat_i cat_e))) (Nat.le_of_ble_eq_true rfl) (fun k hl hg hin hQ hC => ?_)
  subst hl hg
  show GW k 5 M 0 [some (va_rf (some a0)), some (.int p1), some (.int p2), none, none] []
  refine G_iload_n (pc := 0) (i := 1) hC dX3_isSame_0 rfl rfl ?_
  refine G_callS (pc := 1) (n := 1) (As := [.int p1]) (rest := []) hC (m_X3_isRegister hJ hw) (lw_S q3567 q3568 q108 q3569) hd_X3_isRegister.2 (by decide) rfl rfl (st_c cat_e (Nat.le_of_ble_eq_true rfl)) dX3_isSame_1 (kI fun x2 M1 hw => ?_)
  refine G_if_eq (pc := 4) (tgt := 14) hC dX3_isSame_4 (by decide) (fun hc => ?_) (fun hc => ?_)
  · replace hw := hw.1 hc
    exact g_X3_isSame_14 hJ hC hQ hin   M1 hw
  · replace hw := hw.2 hc
    refine G_iload_n (pc := 7) (i := 2) hC dX3_isSame_7 rfl rfl ?_
    refine G_callS (pc := 8) (n := 1) (As := [.int p2]) (rest := []) hC (m_X3_isRegister hJ hw) (lw_S q3567 q3568 q108 q3569) hd_X3_isRegister.2 (by decide) rfl rfl (st_c cat_e (Nat.le_of_ble_eq_true rfl)) dX3_isSame_8 (kI fun x4 M3 hw => ?_)
    refine G_if_ne (pc := 11) (tgt := 20) hC dX3_isSame_11 (by decide) (fun hc => ?_) (fun hc => ?_)
    · replace hw := hw.1 hc
      refine G_aload_n (pc := 20) (i := 0) hC dX3_isSame_20 rfl rfl ?_
      refine G_getF (pc := 21) (ci := 2) (C := RX3) (T := TX3) (N := 61) (f := 2) hC rfl in_X3 (Nat.le_of_ble_eq_true rfl) q3376 (fun _ h => h) dX3_isSame_21 hw (fun x5 hw => ?_)
      refine G_iload_n (pc := 24) (i := 1) hC dX3_isSame_24 rfl rfl ?_
      refine G_iald (pc := 25) hC dX3_isSame_25 hw (fun x6 hw => ?_)
      refine G_aload_n (pc := 26) (i := 0) hC dX3_isSame_26 rfl rfl ?_
      refine G_getF (pc := 27) (ci := 2) (C := RX3) (T := TX3) (N := 61) (f := 2) hC rfl in_X3 (Nat.le_of_ble_eq_true rfl) q3376 (fun _ h => h) dX3_isSame_27 hw (fun x7 hw => ?_)
      refine G_iload_n (pc := 30) (i := 2) hC dX3_isSame_30 rfl rfl ?_
      refine G_iald (pc := 31) hC dX3_isSame_31 hw (fun x8 hw => ?_)
      refine G_icmp_ne (pc := 32) (tgt := 39) hC dX3_isSame_32 (by decide) (fun hc => ?_) (fun hc => ?_)
      · replace hw := hw.1 hc
        refine G_iconst (pc := 39) (v := 0) hC dX3_isSame_39 (by decide) ?_
        exact g_X3_isSame_40 hJ hC hQ hin  (0 : Int32) M3 hw
      · replace hw := hw.2 hc
        refine G_iconst (pc := 35) (v := 1) hC dX3_isSame_35 (by decide) ?_
        refine G_goto (pc := 36) (tgt := 40) hC dX3_isSame_36 (by decide) ?_
        exact g_X3_isSame_40 hJ hC hQ hin  (1 : Int32) M3 hw
    · replace hw := hw.2 hc
      exact g_X3_isSame_14 hJ hC hQ hin   M3 hw
def w_X3_feed (g : gT) (F : Nat) (a0 : Nat) (p1 : Int32) (M : hM) (Q : Int32 → hM → Prop) : Prop :=
  gI M (some a0) 2 6 fun x1 => ((¬ x1 = (50 : Int32) → gF M (some a0) 2 5 fun x2 => gI M (some a0) 2 6 fun x3 => sI M x2 5 x3 (vp_nar .char p1) fun M4 => gI M4 (some a0) 2 6 fun x5 => pV M4 (some a0) 2 6 (.int (x5 + (1 : Int32))) fun M6 => gI M6 (some a0) 2 6 fun x7 => (isC M6 a0 2 ∧ w_X3_done g F a0 x7 M6 (fun x9 M8 => Q x9 M8))) ∧ (x1 = (50 : Int32) → (isC M a0 2 ∧ w_X3_fails g F a0 (1 : Int32) M (fun x11 M10 => Q x11 M10))))
theorem m_X3_feed {l : Launch} {g : gT} {F : Nat} {a0 : Nat} {p1 : Int32} {M : hM} {Q : Int32 → hM → Prop} (hJ : JOK l g) (hw : w_X3_feed g F a0 p1 M Q) : MG l g yX3_feed (ws_ yX3_feed cX3_feed 2 (some .int)) 2 33 [va_rf (some a0), .int p1] M (PI Q) := by
  refine MG_of hJ.2.1 (by decide) (cat_r (cat_i cat_e)) (Nat.le_of_ble_eq_true rfl) (fun k hl hg hin hQ hC => ?_)
  subst hl hg
  show GW k 2 M 0 [some (va_rf (some a0)), some (.int p1)] []
  refine G_aload_n (pc := 0) (i := 0) hC dX3_feed_0 rfl rfl ?_
  refine G_getI (pc := 1) (ci := 2) (C := RX3) (T := TX3) (N := 61) (f := 6) hC rfl in_X3 (Nat.le_of_ble_eq_true rfl) q3380 (fun _ h => h) dX3_feed_1 hw (fun x1 hw => ?_)
  refine G_bipush (pc := 4) (v := 50) hC dX3_feed_4 (by decide) ?_
  refine G_icmp_ne (pc := 6) (tgt := 15) hC dX3_feed_6 (by decide) (fun hc => ?_) (fun hc => ?_)
  · replace hw := hw.1 hc
    refine G_aload_n (pc := 15) (i := 0) hC dX3_feed_15 rfl rfl ?_
    refine G_getF (pc := 16) (ci := 2) (C := RX3) (T := TX3) (N := 61) (f := 5) hC rfl in_X3 (Nat.le_of_ble_eq_true rfl) q3379 (fun _ h => h) dX3_feed_16 hw (fun x2 hw => ?_)
    refine G_aload_n (pc := 19) (i := 0) hC dX3_feed_19 rfl rfl ?_
    refine G_getI (pc := 20) (ci := 2) (C := RX3) (T := TX3) (N := 61) (f := 6) hC rfl in_X3 (Nat.le_of_ble_eq_true rfl) q3380 (fun _ h => h) dX3_feed_20 hw (fun x3 hw => ?_)
    refine G_iload_n (pc := 23) (i := 1) hC dX3_feed_23 rfl rfl ?_
    refine G_cast (pc := 24) hC dX3_feed_24 hw (fun M4 hw => ?_)
    refine G_aload_n (pc := 25) (i := 0) hC dX3_feed_25 rfl rfl ?_
    refine G_dup (pc := 26) hC dX3_feed_26 (rf_cat _) ?_
    refine G_getI (pc := 27) (ci := 2) (C := RX3) (T := TX3) (N := 61) (f := 6) hC rfl in_X3 (Nat.le_of_ble_eq_true rfl) q3380 (fun _ h => h) dX3_feed_27 hw (fun x5 hw => ?_)
    refine G_iconst (pc := 30) (v := 1) hC dX3_feed_30 (by decide) ?_
    refine G_iadd (pc := 31) hC dX3_feed_31 ?_
    refine G_put (pc := 32) (ci := 2) (C := RX3) (T := TX3) (N := 61) (f := 6) tyX3 hC rfl in_X3 tyX3_ok nmX3 (Nat.le_of_ble_eq_true rfl) q3380 (fun _ h => h) rfl rfl rfl dX3_feed_32 hw (fun M6 hw => ?_)
    refine G_aload_n (pc := 35) (i := 0) hC dX3_feed_35 rfl rfl ?_
    refine G_aload_n (pc := 36) (i := 0) hC dX3_feed_36 rfl rfl ?_
    refine G_getI (pc := 37) (ci := 2) (C := RX3) (T := TX3) (N := 61) (f := 6) hC rfl in_X3 (Nat.le_of_ble_eq_true rfl) q3380 (fun _ h => h) dX3_feed_37 hw (fun x7 hw => ?_)
    obtain ⟨hb, hw⟩ := hw
    refine G_callV (pc := 40) (n := 1) (C := "MergeWorkbenchModel") (b := a0) (As := [.int x7]) (rest := []) hC (m_X3_done hJ hw) (lw_V q3581 q3583 qs54 q108 q3584) hd_X3_done (by decide) (rcv (C := RX3) (T := TX3) (N := 61) hC hb rfl) rfl rfl (st_c cat_e (Nat.le_of_ble_eq_true rfl)) dX3_feed_40 (kI fun x9 M8 hw => ?_)
    exact G_iret (pc := 43) hC rfl hQ dX3_feed_43 hw
  · replace hw := hw.2 hc
    refine G_aload_n (pc := 9) (i := 0) hC dX3_feed_9 rfl rfl ?_
    refine G_iconst (pc := 10) (v := 1) hC dX3_feed_10 (by decide) ?_
    obtain ⟨hb, hw⟩ := hw
    refine G_callV (pc := 11) (n := 1) (C := "MergeWorkbenchModel") (b := a0) (As := [.int (1 : Int32)]) (rest := []) hC (m_X3_fails hJ hw) (lw_V q3573 q3575 qs52 q108 q3576) hd_X3_fails (by decide) (rcv (C := RX3) (T := TX3) (N := 61) hC hb rfl) rfl rfl (st_c cat_e (Nat.le_of_ble_eq_true rfl)) dX3_feed_11 (kI fun x11 M10 hw => ?_)
    exact G_iret (pc := 14) hC rfl hQ dX3_feed_14 hw
def w_X3_here_24 (g : gT) (F : Nat) (a0 : Nat) (Q : Int32 → hM → Prop) (s0 : Int32) (M : hM) : Prop :=
  Q s0 M
def w_X3_here (g : gT) (F : Nat) (a0 : Nat) (M : hM) (Q : Int32 → hM → Prop) : Prop :=
  gI M (some a0) 2 16 fun x1 => gI M (some a0) 2 6 fun x2 => ((x2 ≤ x1 → w_X3_here_24 g F a0 Q (0 : Int32) M) ∧ (¬ (x2 ≤ x1) → gF M (some a0) 2 5 fun x3 => gI M (some a0) 2 16 fun x4 => aI M x3 5 x4 fun x5 => w_X3_here_24 g F a0 Q x5 M))
theorem g_X3_here_24 {k : kT} {F : Nat} {a0 : Nat} {Q : Int32 → hM → Prop} (hJ : JOK (kl k) (kg k)) (hC : CX k 1 cX3_here RX3 (some .int) 1 12) (hQ : isQ k (PI Q)) (hin : (kt k).name = "here") : ∀ (s0 : Int32) (M : hM), w_X3_here_24 (kg k) F a0 Q s0 M → GW k 1 M 24 [some (va_rf (some a0))] [.int s0] := by
  intro s0 M hw
  exact G_iret (pc := 24) hC rfl hQ dX3_here_24 hw
theorem m_X3_here {l : Launch} {g : gT} {F : Nat} {a0 : Nat} {M : hM} {Q : Int32 → hM → Prop} (hJ : JOK l g) (hw : w_X3_here g F a0 M Q) : MG l g yX3_here (ws_ yX3_here cX3_here 1 (some .int)) 1 12 [va_rf (some a0)] M (PI Q) := by
  refine MG_of hJ.2.1 (by decide) (cat_r cat_e) (Nat.le_of_ble_eq_true rfl) (fun k hl hg hin hQ hC => ?_)
  subst hl hg
  show GW k 1 M 0 [some (va_rf (some a0))] []
  refine G_aload_n (pc := 0) (i := 0) hC dX3_here_0 rfl rfl ?_
  refine G_getI (pc := 1) (ci := 2) (C := RX3) (T := TX3) (N := 61) (f := 16) hC rfl in_X3 (Nat.le_of_ble_eq_true rfl) q3390 (fun _ h => h) dX3_here_1 hw (fun x1 hw => ?_)
  refine G_aload_n (pc := 4) (i := 0) hC dX3_here_4 rfl rfl ?_
  refine G_getI (pc := 5) (ci := 2) (C := RX3) (T := TX3) (N := 61) (f := 6) hC rfl in_X3 (Nat.le_of_ble_eq_true rfl) q3380 (fun _ h => h) dX3_here_5 hw (fun x2 hw => ?_)
  refine G_icmp_ge (pc := 8) (tgt := 23) hC dX3_here_8 (by decide) (fun hc => ?_) (fun hc => ?_)
  · replace hw := hw.1 hc
    refine G_iconst (pc := 23) (v := 0) hC dX3_here_23 (by decide) ?_
    exact g_X3_here_24 hJ hC hQ hin  (0 : Int32) M hw
  · replace hw := hw.2 hc
    refine G_aload_n (pc := 11) (i := 0) hC dX3_here_11 rfl rfl ?_
    refine G_getF (pc := 12) (ci := 2) (C := RX3) (T := TX3) (N := 61) (f := 5) hC rfl in_X3 (Nat.le_of_ble_eq_true rfl) q3379 (fun _ h => h) dX3_here_12 hw (fun x3 hw => ?_)
    refine G_aload_n (pc := 15) (i := 0) hC dX3_here_15 rfl rfl ?_
    refine G_getI (pc := 16) (ci := 2) (C := RX3) (T := TX3) (N := 61) (f := 16) hC rfl in_X3 (Nat.le_of_ble_eq_true rfl) q3390 (fun _ h => h) dX3_here_16 hw (fun x4 hw => ?_)
    refine G_cald (pc := 19) hC dX3_here_19 hw (fun x5 hw => ?_)
    refine G_goto (pc := 20) (tgt := 24) hC dX3_here_20 (by decide) ?_
    exact g_X3_here_24 hJ hC hQ hin  x5 M hw
def w_X3_comes_30 (g : gT) (F : Nat) (a0 : Nat) (p1 : Int32) (Q : hM → Prop) (M : hM) : Prop :=
  Q M
def w_X3_comes (g : gT) (F : Nat) (a0 : Nat) (p1 : Int32) (M : hM) (Q : hM → Prop) : Prop :=
  gI M (some a0) 2 18 fun x1 => (((1999 : Int32) ≤ x1 → w_X3_comes_30 g F a0 p1 Q M) ∧ (¬ ((1999 : Int32) ≤ x1) → gF M (some a0) 2 15 fun x2 => gI M (some a0) 2 18 fun x3 => sI M x2 0 x3 p1 fun M4 => gI M4 (some a0) 2 18 fun x5 => pV M4 (some a0) 2 18 (.int (x5 + (1 : Int32))) fun M6 => w_X3_comes_30 g F a0 p1 Q M6))
theorem g_X3_comes_30 {k : kT} {F : Nat} {a0 : Nat} {p1 : Int32} {Q : hM → Prop} (hJ : JOK (kl k) (kg k)) (hC : CX k 2 cX3_comes RX3 none 1 12) (hQ : isQ k (PU Q)) (hin : (kt k).name = "comes") : ∀  (M : hM), w_X3_comes_30 (kg k) F a0 p1 Q  M → GW k 2 M 30 [some (va_rf (some a0)), some (.int p1)] [] := by
  intro  M hw
  exact G_ret (pc := 30) hC hQ dX3_comes_30 hw
theorem m_X3_comes {l : Launch} {g : gT} {F : Nat} {a0 : Nat} {p1 : Int32} {M : hM} {Q : hM → Prop} (hJ : JOK l g) (hw : w_X3_comes g F a0 p1 M Q) : MG l g yX3_comes (ws_ yX3_comes cX3_comes 2 none) 1 12 [va_rf (some a0), .int p1] M (PU Q) := by
  refine MG_of hJ.2.1 (by decide) (cat_r (cat_i cat_e)) (Nat.le_of_ble_eq_true rfl) (fun k hl hg hin hQ hC => ?_)
  subst hl hg
  show GW k 2 M 0 [some (va_rf (some a0)), some (.int p1)] []
  refine G_aload_n (pc := 0) (i := 0) hC dX3_comes_0 rfl rfl ?_
  refine G_getI (pc := 1) (ci := 2) (C := RX3) (T := TX3) (N := 61) (f := 18) hC rfl in_X3 (Nat.le_of_ble_eq_true rfl) q3392 (fun _ h => h) dX3_comes_1 hw (fun x1 hw => ?_)
  refine G_sipush (pc := 4) (v := 1999) hC dX3_comes_4 (by decide) ?_
  refine G_icmp_ge (pc := 7) (tgt := 30) hC dX3_comes_7 (by decide) (fun hc => ?_) (fun hc => ?_)
  · replace hw := hw.1 hc
    exact g_X3_comes_30 hJ hC hQ hin   M hw
  · replace hw := hw.2 hc
    refine G_aload_n (pc := 10) (i := 0) hC dX3_comes_10 rfl rfl ?_
    refine G_getF (pc := 11) (ci := 2) (C := RX3) (T := TX3) (N := 61) (f := 15) hC rfl in_X3 (Nat.le_of_ble_eq_true rfl) q3389 (fun _ h => h) dX3_comes_11 hw (fun x2 hw => ?_)
    refine G_aload_n (pc := 14) (i := 0) hC dX3_comes_14 rfl rfl ?_
    refine G_getI (pc := 15) (ci := 2) (C := RX3) (T := TX3) (N := 61) (f := 18) hC rfl in_X3 (Nat.le_of_ble_eq_true rfl) q3392 (fun _ h => h) dX3_comes_15 hw (fun x3 hw => ?_)
    refine G_iload_n (pc := 18) (i := 1) hC dX3_comes_18 rfl rfl ?_
    refine G_iast (pc := 19) hC dX3_comes_19 hw (fun M4 hw => ?_)
    refine G_aload_n (pc := 20) (i := 0) hC dX3_comes_20 rfl rfl ?_
    refine G_dup (pc := 21) hC dX3_comes_21 (rf_cat _) ?_
    refine G_getI (pc := 22) (ci := 2) (C := RX3) (T := TX3) (N := 61) (f := 18) hC rfl in_X3 (Nat.le_of_ble_eq_true rfl) q3392 (fun _ h => h) dX3_comes_22 hw (fun x5 hw => ?_)
    refine G_iconst (pc := 25) (v := 1) hC dX3_comes_25 (by decide) ?_
    refine G_iadd (pc := 26) hC dX3_comes_26 ?_
    refine G_put (pc := 27) (ci := 2) (C := RX3) (T := TX3) (N := 61) (f := 18) tyX3 hC rfl in_X3 tyX3_ok nmX3 (Nat.le_of_ble_eq_true rfl) q3392 (fun _ h => h) rfl rfl rfl dX3_comes_27 hw (fun M6 hw => ?_)
    exact g_X3_comes_30 hJ hC hQ hin   M6 hw
theorem hd_X3_comes : yX3_comes.cls = "MergeWorkbenchModel" ∧ yX3_comes.cls ≠ "java/lang/invoke/MethodHandle" ∧ yX3_comes.cls ≠ "java/lang/invoke/VarHandle" ∧ (parseMethodDescriptor yX3_comes.desc).map (fun d => d.parameters.length) = some 1 := by decide +kernel
theorem hd_X3_here : yX3_here.cls = "MergeWorkbenchModel" ∧ yX3_here.cls ≠ "java/lang/invoke/MethodHandle" ∧ yX3_here.cls ≠ "java/lang/invoke/VarHandle" ∧ (parseMethodDescriptor yX3_here.desc).map (fun d => d.parameters.length) = some 0 := by decide +kernel
def w_X3_repeats_74 (g : gT) (F : Nat) (a0 : Nat) (p1 : Int32) (Q : hM → Prop) (M : hM) : Prop :=
  Q M
def w_X3_repeats_35 (g : gT) (F : Nat) (a0 : Nat) (p1 : Int32) (Q : hM → Prop) (K21 : Int32 → Int32 → hM → Prop) : Nat → Int32 → Int32 → Int32 → hM → Prop
  | 0, _, _, _, _ => False
  | n + 1, v2, v3, v4, M => ((v2 ≤ v4 → K21 v2 (v3 + (1 : Int32)) M) ∧ (¬ (v2 ≤ v4) → gF M (some a0) 2 15 fun x1 => aI M x1 0 v4 fun x2 => (isC M a0 2 ∧ w_X3_comes g F a0 x2 M (fun M3 => w_X3_repeats_35 g F a0 p1 Q K21 n v2 v3 (v4 + (1 : Int32)) M3))))
def w_X3_repeats_21 (g : gT) (F : Nat) (a0 : Nat) (p1 : Int32) (Q : hM → Prop) : Nat → Int32 → Int32 → hM → Prop
  | 0, _, _, _ => False
  | n + 1, v2, v3, M => (isC M a0 2 ∧ w_X3_here g F a0  M (fun x2 M1 => (((x2 - (48 : Int32)) ≤ v3 → gI M1 (some a0) 2 16 fun x3 => pV M1 (some a0) 2 16 (.int (x3 + (1 : Int32))) fun M4 => w_X3_repeats_74 g F a0 p1 Q M4) ∧ (¬ ((x2 - (48 : Int32)) ≤ v3) → w_X3_repeats_35 g F a0 p1 Q (fun v2 v3 M => w_X3_repeats_21 g F a0 p1 Q n v2 v3 M) F v2 v3 p1 M1))))
def w_X3_repeats (g : gT) (F : Nat) (a0 : Nat) (p1 : Int32) (M : hM) (Q : hM → Prop) : Prop :=
  (isC M a0 2 ∧ w_X3_here g F a0  M (fun x2 M1 => w_X3_in g F x2 (50 : Int32) (57 : Int32) M1 (fun x4 M3 => ((x4 = 0 → w_X3_repeats_74 g F a0 p1 Q M3) ∧ (¬ (x4 = 0) → gI M3 (some a0) 2 18 fun x5 => w_X3_repeats_21 g F a0 p1 Q F x5 (1 : Int32) M3)))))
theorem g_X3_repeats_74 {k : kT} {F : Nat} {a0 : Nat} {p1 : Int32} {Q : hM → Prop} (hJ : JOK (kl k) (kg k)) (hC : CX k 5 cX3_repeats RX3 none 2 34) (hQ : isQ k (PU Q)) (hin : (kt k).name = "repeats") : ∀  (M : hM), w_X3_repeats_74 (kg k) F a0 p1 Q  M → GW k 5 M 74 [some (va_rf (some a0)), some (.int p1), none, none, none] [] := by
  intro  M hw
  exact G_ret (pc := 74) hC hQ dX3_repeats_74 hw
theorem g_X3_repeats_35 {k : kT} {F : Nat} {a0 : Nat} {p1 : Int32} {Q : hM → Prop} {K21 : Int32 → Int32 → hM → Prop} (hJ : JOK (kl k) (kg k)) (hC : CX k 5 cX3_repeats RX3 none 2 34) (hQ : isQ k (PU Q)) (hin : (kt k).name = "repeats") (hK21 : ∀ (v2 : Int32) (v3 : Int32) (M : hM), K21 v2 v3 M → GW k 5 M 21 [some (va_rf (some a0)), some (.int p1), some (.int v2), some (.int v3), none] []) : ∀ (n : Nat) (v2 : Int32) (v3 : Int32) (v4 : Int32) (M : hM), w_X3_repeats_35 (kg k) F a0 p1 Q K21 n v2 v3 v4 M → GW k 5 M 35 [some (va_rf (some a0)), some (.int p1), some (.int v2), some (.int v3), some (.int v4)] [] := by
  intro n
  induction n with
  | zero =>
    intro v2 v3 v4 M hw
    exact hw.elim
  | succ n ih =>
    intro v2 v3 v4 M hw
    refine G_iload (pc := 35) (i := 4) hC dX3_repeats_35 rfl ?_
    refine G_iload_n (pc := 37) (i := 2) hC dX3_repeats_37 rfl rfl ?_
    refine G_icmp_ge (pc := 38) (tgt := 58) hC dX3_repeats_38 (by decide) (fun hc => ?_) (fun hc => ?_)
    · replace hw := hw.1 hc
      refine G_iinc (pc := 58) (i := 3) (v := (v3 + (1 : Int32))) (lw := [some (va_rf (some a0)), some (.int p1), some (.int v2), some (.int (v3 + (1 : Int32))), some (.int v4)]) hC dX3_repeats_58 rfl (Nat.le_of_ble_eq_true rfl) rfl rfl ?_
      refine G_goto (pc := 61) (tgt := 21) hC dX3_repeats_61 (by decide) ?_
      refine G_loc (lv' := [some (va_rf (some a0)), some (.int p1), some (.int v2), some (.int (v3 + (1 : Int32))), none]) ⟨Or.inr rfl, Or.inr rfl, Or.inr rfl, Or.inr rfl, Or.inl rfl, trivial⟩ ?_
      exact hK21 v2 (v3 + (1 : Int32)) M hw
    · replace hw := hw.2 hc
      refine G_aload_n (pc := 41) (i := 0) hC dX3_repeats_41 rfl rfl ?_
      refine G_aload_n (pc := 42) (i := 0) hC dX3_repeats_42 rfl rfl ?_
      refine G_getF (pc := 43) (ci := 2) (C := RX3) (T := TX3) (N := 61) (f := 15) hC rfl in_X3 (Nat.le_of_ble_eq_true rfl) q3389 (fun _ h => h) dX3_repeats_43 hw (fun x1 hw => ?_)
      refine G_iload (pc := 46) (i := 4) hC dX3_repeats_46 rfl ?_
      refine G_iald (pc := 48) hC dX3_repeats_48 hw (fun x2 hw => ?_)
      obtain ⟨hb, hw⟩ := hw
      refine G_callV (pc := 49) (n := 1) (C := "MergeWorkbenchModel") (b := a0) (As := [.int x2]) (rest := []) hC (m_X3_comes hJ hw) (lw_V q3636 q3638 qs59 q108 q3639) hd_X3_comes (by decide) (rcv (C := RX3) (T := TX3) (N := 61) hC hb rfl) rfl rfl (st_c cat_e (Nat.le_of_ble_eq_true rfl)) dX3_repeats_49 (kU fun M3 hw => ?_)
      refine G_iinc (pc := 52) (i := 4) (v := (v4 + (1 : Int32))) (lw := [some (va_rf (some a0)), some (.int p1), some (.int v2), some (.int v3), some (.int (v4 + (1 : Int32)))]) hC dX3_repeats_52 rfl (Nat.le_of_ble_eq_true rfl) rfl rfl ?_
      refine G_goto (pc := 55) (tgt := 35) hC dX3_repeats_55 (by decide) ?_
      exact ih v2 v3 (v4 + (1 : Int32)) M3 hw
theorem g_X3_repeats_21 {k : kT} {F : Nat} {a0 : Nat} {p1 : Int32} {Q : hM → Prop} (hJ : JOK (kl k) (kg k)) (hC : CX k 5 cX3_repeats RX3 none 2 34) (hQ : isQ k (PU Q)) (hin : (kt k).name = "repeats") : ∀ (n : Nat) (v2 : Int32) (v3 : Int32) (M : hM), w_X3_repeats_21 (kg k) F a0 p1 Q n v2 v3 M → GW k 5 M 21 [some (va_rf (some a0)), some (.int p1), some (.int v2), some (.int v3), none] [] := by
  intro n
  induction n with
  | zero =>
    intro v2 v3 M hw
    exact hw.elim
  | succ n ih =>
    intro v2 v3 M hw
    refine G_iload_n (pc := 21) (i := 3) hC dX3_repeats_21 rfl rfl ?_
    refine G_aload_n (pc := 22) (i := 0) hC dX3_repeats_22 rfl rfl ?_
    obtain ⟨hb, hw⟩ := hw
    refine G_callV (pc := 23) (n := 0) (C := "MergeWorkbenchModel") (b := a0) (As := []) (rest := [.int v3]) hC (m_X3_here hJ hw) (lw_V q3632 q3634 qs58 q108 q3635) hd_X3_here (by decide) (rcv (C := RX3) (T := TX3) (N := 61) hC hb rfl) rfl rfl (st_c (cat_i cat_e) (Nat.le_of_ble_eq_true rfl)) dX3_repeats_23 (kI fun x2 M1 hw => ?_)
    refine G_bipush (pc := 26) (v := 48) hC dX3_repeats_26 (by decide) ?_
    refine G_isub (pc := 28) hC dX3_repeats_28 ?_
    refine G_icmp_ge (pc := 29) (tgt := 64) hC dX3_repeats_29 (by decide) (fun hc => ?_) (fun hc => ?_)
    · replace hw := hw.1 hc
      refine G_aload_n (pc := 64) (i := 0) hC dX3_repeats_64 rfl rfl ?_
      refine G_dup (pc := 65) hC dX3_repeats_65 (rf_cat _) ?_
      refine G_getI (pc := 66) (ci := 2) (C := RX3) (T := TX3) (N := 61) (f := 16) hC rfl in_X3 (Nat.le_of_ble_eq_true rfl) q3390 (fun _ h => h) dX3_repeats_66 hw (fun x3 hw => ?_)
      refine G_iconst (pc := 69) (v := 1) hC dX3_repeats_69 (by decide) ?_
      refine G_iadd (pc := 70) hC dX3_repeats_70 ?_
      refine G_put (pc := 71) (ci := 2) (C := RX3) (T := TX3) (N := 61) (f := 16) tyX3 hC rfl in_X3 tyX3_ok nmX3 (Nat.le_of_ble_eq_true rfl) q3390 (fun _ h => h) rfl rfl rfl dX3_repeats_71 hw (fun M4 hw => ?_)
      refine G_loc (lv' := [some (va_rf (some a0)), some (.int p1), none, none, none]) ⟨Or.inr rfl, Or.inr rfl, Or.inl rfl, Or.inl rfl, Or.inr rfl, trivial⟩ ?_
      exact g_X3_repeats_74 hJ hC hQ hin   M4 hw
    · replace hw := hw.2 hc
      refine G_iload_n (pc := 32) (i := 1) hC dX3_repeats_32 rfl rfl ?_
      refine G_istore (pc := 33) (i := 4) (lw := [some (va_rf (some a0)), some (.int p1), some (.int v2), some (.int v3), some (.int p1)]) hC dX3_repeats_33 (Nat.le_of_ble_eq_true rfl) rfl ?_
      exact g_X3_repeats_35 hJ hC hQ hin ih _ v2 v3 p1 M1 hw
theorem m_X3_repeats {l : Launch} {g : gT} {F : Nat} {a0 : Nat} {p1 : Int32} {M : hM} {Q : hM → Prop} (hJ : JOK l g) (hw : w_X3_repeats g F a0 p1 M Q) : MG l g yX3_repeats (ws_ yX3_repeats cX3_repeats 5 none) 2 34 [va_rf (some a0), .int p1] M (PU Q) := by
  refine MG_of hJ.2.1 (by decide) (cat_r (cat_i cat_e)) (Nat.le_of_ble_eq_true rfl) (fun k hl hg hin hQ hC => ?_)
  subst hl hg
  show GW k 5 M 0 [some (va_rf (some a0)), some (.int p1), none, none, none] []
  refine G_aload_n (pc := 0) (i := 0) hC dX3_repeats_0 rfl rfl ?_
  obtain ⟨hb, hw⟩ := hw
  refine G_callV (pc := 1) (n := 0) (C := "MergeWorkbenchModel") (b := a0) (As := []) (rest := []) hC (m_X3_here hJ hw) (lw_V q3632 q3634 qs58 q108 q3635) hd_X3_here (by decide) (rcv (C := RX3) (T := TX3) (N := 61) hC hb rfl) rfl rfl (st_c cat_e (Nat.le_of_ble_eq_true rfl)) dX3_repeats_1 (kI fun x2 M1 hw => ?_)
  refine G_bipush (pc := 4) (v := 50) hC dX3_repeats_4 (by decide) ?_
  refine G_bipush (pc := 6) (v := 57) hC dX3_repeats_6 (by decide) ?_
  refine G_callS (pc := 8) (n := 3) (As := [.int x2, .int (50 : Int32), .int (57 : Int32)]) (rest := []) hC (m_X3_in hJ hw) (lw_S q3570 q3571 q108 q3572) hd_X3_in.2 (by decide) rfl rfl (st_c cat_e (Nat.le_of_ble_eq_true rfl)) dX3_repeats_8 (kI fun x4 M3 hw => ?_)
  refine G_if_eq (pc := 11) (tgt := 74) hC dX3_repeats_11 (by decide) (fun hc => ?_) (fun hc => ?_)
  · replace hw := hw.1 hc
    exact g_X3_repeats_74 hJ hC hQ hin   M3 hw
  · replace hw := hw.2 hc
    refine G_aload_n (pc := 14) (i := 0) hC dX3_repeats_14 rfl rfl ?_
    refine G_getI (pc := 15) (ci := 2) (C := RX3) (T := TX3) (N := 61) (f := 18) hC rfl in_X3 (Nat.le_of_ble_eq_true rfl) q3392 (fun _ h => h) dX3_repeats_15 hw (fun x5 hw => ?_)
    refine G_istore_n (pc := 18) (i := 2) (lw := [some (va_rf (some a0)), some (.int p1), some (.int x5), none, none]) hC dX3_repeats_18 rfl (Nat.le_of_ble_eq_true rfl) rfl ?_
    refine G_iconst (pc := 19) (v := 1) hC dX3_repeats_19 (by decide) ?_
    refine G_istore_n (pc := 20) (i := 3) (lw := [some (va_rf (some a0)), some (.int p1), some (.int x5), some (.int (1 : Int32)), none]) hC dX3_repeats_20 rfl (Nat.le_of_ble_eq_true rfl) rfl ?_
    exact g_X3_repeats_21 hJ hC hQ hin _ x5 (1 : Int32) M3 hw
theorem hd_X3_readsItem : yX3_readsItem.cls = "MergeWorkbenchModel" ∧ yX3_readsItem.cls ≠ "java/lang/invoke/MethodHandle" ∧ yX3_readsItem.cls ≠ "java/lang/invoke/VarHandle" ∧ (parseMethodDescriptor yX3_readsItem.desc).map (fun d => d.parameters.length) = some 1 := by decide +kernel
theorem hd_X3_repeats : yX3_repeats.cls = "MergeWorkbenchModel" ∧ yX3_repeats.cls ≠ "java/lang/invoke/MethodHandle" ∧ yX3_repeats.cls ≠ "java/lang/invoke/VarHandle" ∧ (parseMethodDescriptor yX3_repeats.desc).map (fun d => d.parameters.length) = some 1 := by decide +kernel
def w_X3_readsItem_60 (g : gT) (F : Nat) (W : (Option Nat) → hM → (Int32 → hM → Prop) → Prop) (p0 : Option Nat) (Q : Int32 → hM → Prop) (M : hM) : Prop :=
  Q (0 : Int32) M
def w_X3_readsItem_134 (g : gT) (F : Nat) (W : (Option Nat) → hM → (Int32 → hM → Prop) → Prop) (p0 : Option Nat) (Q : Int32 → hM → Prop) (v1 : Int32) (M : hM) : Prop :=
  gThis M p0 2 fun b2 => w_X3_repeats g F b2 v1 M (fun M1 => Q (1 : Int32) M1)
def w_X3_readsItem_108 (g : gT) (F : Nat) (W : (Option Nat) → hM → (Int32 → hM → Prop) → Prop) (p0 : Option Nat) (Q : Int32 → hM → Prop) (v1 : Int32) (v2 : Int32) (M : hM) : Prop :=
  ((¬ v2 = 0 → gI M p0 2 16 fun x1 => pV M p0 2 16 (.int (x1 + (1 : Int32))) fun M2 => gI M2 p0 2 17 fun x3 => pV M2 p0 2 17 (.int (x3 - (1 : Int32))) fun M4 => w_X3_readsItem_134 g F W p0 Q v1 M4) ∧ (v2 = 0 → Q (0 : Int32) M))
def w_X3_readsItem_87 (g : gT) (F : Nat) (W : (Option Nat) → hM → (Int32 → hM → Prop) → Prop) (p0 : Option Nat) (Q : Int32 → hM → Prop) : Nat → Int32 → Int32 → hM → Prop
  | 0, _, _, _ => False
  | n + 1, v1, v2, M => ((v2 = 0 → w_X3_readsItem_108 g F W p0 Q v1 v2 M) ∧ (¬ (v2 = 0) → gThis M p0 2 fun b2 => w_X3_here g F b2  M (fun x3 M1 => ((x3 = (41 : Int32) → w_X3_readsItem_108 g F W p0 Q v1 v2 M1) ∧ (¬ (x3 = (41 : Int32)) → W (some b2) M1 (fun x5 M4 => w_X3_readsItem_87 g F W p0 Q n v1 x5 M4))))))
def w_X3_readsItem (g : gT) (F : Nat) (W : (Option Nat) → hM → (Int32 → hM → Prop) → Prop) (p0 : Option Nat) (M : hM) (Q : Int32 → hM → Prop) : Prop :=
  gI M p0 2 18 fun x1 => gThis M p0 2 fun b3 => w_X3_here g F b3  M (fun x4 M2 => w_X3_in g F x4 (97 : Int32) (122 : Int32) M2 (fun x6 M5 => ((x6 = 0 → (isC M5 b3 2 ∧ w_X3_here g F b3  M5 (fun x8 M7 => ((¬ x8 = (40 : Int32) → w_X3_readsItem_60 g F W p0 Q M7) ∧ (x8 = (40 : Int32) → gI M7 (some b3) 2 17 fun x9 => ((¬ x9 = (4 : Int32) → gI M7 (some b3) 2 17 fun x10 => pV M7 (some b3) 2 17 (.int (x10 + (1 : Int32))) fun M11 => gI M11 (some b3) 2 16 fun x12 => pV M11 (some b3) 2 16 (.int (x12 + (1 : Int32))) fun M13 => W (some b3) M13 (fun x15 M14 => w_X3_readsItem_87 g F W p0 Q F x1 x15 M14)) ∧ (x9 = (4 : Int32) → w_X3_readsItem_60 g F W p0 Q M7))))))) ∧ (¬ (x6 = 0) → (isC M5 b3 2 ∧ w_X3_here g F b3  M5 (fun x17 M16 => (isC M16 b3 2 ∧ w_X3_comes g F b3 (x17 - (97 : Int32)) M16 (fun M18 => gI M18 (some b3) 2 16 fun x19 => pV M18 (some b3) 2 16 (.int (x19 + (1 : Int32))) fun M20 => w_X3_readsItem_134 g F W p0 Q x1 M20))))))))
def wR_X3_readsItem (g : gT) (F : Nat) : Nat → (Option Nat) → hM → (Int32 → hM → Prop) → Prop
  | 0, _, _, _ => False
  | n + 1, z0, M, Q => w_X3_readsItem g F (wR_X3_readsItem g F n) z0 M Q
theorem m_X3_readsItem_r0 {l : Launch} {g : gT} {F : Nat} {p0 : Option Nat} {M : hM} {Q : Int32 → hM → Prop} (hJ : JOK l g) (hw : wR_X3_readsItem g F 0 p0 M Q) : MG l g yX3_readsItem (ws_ yX3_readsItem cX3_readsItem 3 (some .boolean)) 1 12 [va_rf p0] M (PI Q) := hw.elim
theorem g_X3_readsItem_60_r1 {k : kT} {F : Nat} {p0 : Option Nat} {Q : Int32 → hM → Prop} (hJ : JOK (kl k) (kg k)) (hC : CX k 3 cX3_readsItem RX3 (some .boolean) 3 58) (hQ : isQ k (PI Q)) (hin : (kt k).name = "readsItem") : ∀  (M : hM), w_X3_readsItem_60 (kg k) F (wR_X3_readsItem (kg k) F 0) p0 Q  M → GW k 3 M 60 [some (va_rf p0), none, none] [] := by
  intro  M hw
  refine G_iconst (pc := 60) (v := 0) hC dX3_readsItem_60 (by decide) ?_
  exact G_iret (pc := 61) hC rfl hQ dX3_readsItem_61 hw
theorem g_X3_readsItem_134_r1 {k : kT} {F : Nat} {p0 : Option Nat} {Q : Int32 → hM → Prop} (hJ : JOK (kl k) (kg k)) (hC : CX k 3 cX3_readsItem RX3 (some .boolean) 3 58) (hQ : isQ k (PI Q)) (hin : (kt k).name = "readsItem") : ∀ (v1 : Int32) (M : hM), w_X3_readsItem_134 (kg k) F (wR_X3_readsItem (kg k) F 0) p0 Q v1 M → GW k 3 M 134 [some (va_rf p0), some (.int v1), none] [] := by
  intro v1 M hw
  refine G_aload_n (pc := 134) (i := 0) hC dX3_readsItem_134 rfl rfl ?_
  refine G_iload_n (pc := 135) (i := 1) hC dX3_readsItem_135 rfl rfl ?_
  obtain ⟨b2, rfl, hb, hw⟩ := gThis_e hw
  refine G_callV (pc := 136) (n := 1) (C := "MergeWorkbenchModel") (b := b2) (As := [.int v1]) (rest := []) hC (m_X3_repeats hJ hw) (lw_V q3640 q3642 qs60 q108 q3643) hd_X3_repeats (by decide) (rcv (C := RX3) (T := TX3) (N := 61) hC hb rfl) rfl rfl (st_c cat_e (Nat.le_of_ble_eq_true rfl)) dX3_readsItem_136 (kU fun M1 hw => ?_)
  refine G_iconst (pc := 139) (v := 1) hC dX3_readsItem_139 (by decide) ?_
  exact G_iret (pc := 140) hC rfl hQ dX3_readsItem_140 hw
theorem g_X3_readsItem_108_r1 {k : kT} {F : Nat} {p0 : Option Nat} {Q : Int32 → hM → Prop} (hJ : JOK (kl k) (kg k)) (hC : CX k 3 cX3_readsItem RX3 (some .boolean) 3 58) (hQ : isQ k (PI Q)) (hin : (kt k).name = "readsItem") : ∀ (v1 : Int32) (v2 : Int32) (M : hM), w_X3_readsItem_108 (kg k) F (wR_X3_readsItem (kg k) F 0) p0 Q v1 v2 M → GW k 3 M 108 [some (va_rf p0), some (.int v1), some (.int v2)] [] := by
  intro v1 v2 M hw
  refine G_iload_n (pc := 108) (i := 2) hC dX3_readsItem_108 rfl rfl ?_
  refine G_if_ne (pc := 109) (tgt := 114) hC dX3_readsItem_109 (by decide) (fun hc => ?_) (fun hc => ?_)
  · replace hw := hw.1 hc
    refine G_aload_n (pc := 114) (i := 0) hC dX3_readsItem_114 rfl rfl ?_
    refine G_dup (pc := 115) hC dX3_readsItem_115 (rf_cat _) ?_
    refine G_getI (pc := 116) (ci := 2) (C := RX3) (T := TX3) (N := 61) (f := 16) hC rfl in_X3 (Nat.le_of_ble_eq_true rfl) q3390 (fun _ h => h) dX3_readsItem_116 hw (fun x1 hw => ?_)
    refine G_iconst (pc := 119) (v := 1) hC dX3_readsItem_119 (by decide) ?_
    refine G_iadd (pc := 120) hC dX3_readsItem_120 ?_
    refine G_put (pc := 121) (ci := 2) (C := RX3) (T := TX3) (N := 61) (f := 16) tyX3 hC rfl in_X3 tyX3_ok nmX3 (Nat.le_of_ble_eq_true rfl) q3390 (fun _ h => h) rfl rfl rfl dX3_readsItem_121 hw (fun M2 hw => ?_)
    refine G_aload_n (pc := 124) (i := 0) hC dX3_readsItem_124 rfl rfl ?_
    refine G_dup (pc := 125) hC dX3_readsItem_125 (rf_cat _) ?_
    refine G_getI (pc := 126) (ci := 2) (C := RX3) (T := TX3) (N := 61) (f := 17) hC rfl in_X3 (Nat.le_of_ble_eq_true rfl) q3391 (fun _ h => h) dX3_readsItem_126 hw (fun x3 hw => ?_)
    refine G_iconst (pc := 129) (v := 1) hC dX3_readsItem_129 (by decide) ?_
    refine G_isub (pc := 130) hC dX3_readsItem_130 ?_
    refine G_put (pc := 131) (ci := 2) (C := RX3) (T := TX3) (N := 61) (f := 17) tyX3 hC rfl in_X3 tyX3_ok nmX3 (Nat.le_of_ble_eq_true rfl) q3391 (fun _ h => h) rfl rfl rfl dX3_readsItem_131 hw (fun M4 hw => ?_)
    refine G_loc (lv' := [some (va_rf p0), some (.int v1), none]) ⟨Or.inr rfl, Or.inr rfl, Or.inl rfl, trivial⟩ ?_
    exact g_X3_readsItem_134_r1 hJ hC hQ hin  v1 M4 hw
  · replace hw := hw.2 hc
    refine G_iconst (pc := 112) (v := 0) hC dX3_readsItem_112 (by decide) ?_
    exact G_iret (pc := 113) hC rfl hQ dX3_readsItem_113 hw
theorem g_X3_readsItem_87_r1 {k : kT} {F : Nat} {p0 : Option Nat} {Q : Int32 → hM → Prop} (hJ : JOK (kl k) (kg k)) (hC : CX k 3 cX3_readsItem RX3 (some .boolean) 3 58) (hQ : isQ k (PI Q)) (hin : (kt k).name = "readsItem") : ∀ (n : Nat) (v1 : Int32) (v2 : Int32) (M : hM), w_X3_readsItem_87 (kg k) F (wR_X3_readsItem (kg k) F 0) p0 Q n v1 v2 M → GW k 3 M 87 [some (va_rf p0), some (.int v1), some (.int v2)] [] := by
  intro n
  induction n with
  | zero =>
    intro v1 v2 M hw
    exact hw.elim
  | succ n ih =>
    intro v1 v2 M hw
    refine G_iload_n (pc := 87) (i := 2) hC dX3_readsItem_87 rfl rfl ?_
    refine G_if_eq (pc := 88) (tgt := 108) hC dX3_readsItem_88 (by decide) (fun hc => ?_) (fun hc => ?_)
    · replace hw := hw.1 hc
      exact g_X3_readsItem_108_r1 hJ hC hQ hin  v1 v2 M hw
    · replace hw := hw.2 hc
      refine G_aload_n (pc := 91) (i := 0) hC dX3_readsItem_91 rfl rfl ?_
      obtain ⟨b2, rfl, hb, hw⟩ := gThis_e hw
      refine G_callV (pc := 92) (n := 0) (C := "MergeWorkbenchModel") (b := b2) (As := []) (rest := []) hC (m_X3_here hJ hw) (lw_V q3632 q3634 qs58 q108 q3635) hd_X3_here (by decide) (rcv (C := RX3) (T := TX3) (N := 61) hC hb rfl) rfl rfl (st_c cat_e (Nat.le_of_ble_eq_true rfl)) dX3_readsItem_92 (kI fun x3 M1 hw => ?_)
      refine G_bipush (pc := 95) (v := 41) hC dX3_readsItem_95 (by decide) ?_
      refine G_icmp_eq (pc := 97) (tgt := 108) hC dX3_readsItem_97 (by decide) (fun hc => ?_) (fun hc => ?_)
      · replace hw := hw.1 hc
        exact g_X3_readsItem_108_r1 hJ hC hQ hin  v1 v2 M1 hw
      · replace hw := hw.2 hc
        refine G_aload_n (pc := 100) (i := 0) hC dX3_readsItem_100 rfl rfl ?_
        refine G_callS (pc := 101) (n := 1) (As := [va_rf (some b2)]) (rest := []) hC (m_X3_readsItem_r0 hJ hw) (lw_S q3629 q3630 q108 q3631) hd_X3_readsItem.2 (by decide) rfl rfl (st_c cat_e (Nat.le_of_ble_eq_true rfl)) dX3_readsItem_101 (kI fun x5 M4 hw => ?_)
        refine G_istore_n (pc := 104) (i := 2) (lw := [some (va_rf (some b2)), some (.int v1), some (.int x5)]) hC dX3_readsItem_104 rfl (Nat.le_of_ble_eq_true rfl) rfl ?_
        refine G_goto (pc := 105) (tgt := 87) hC dX3_readsItem_105 (by decide) ?_
        exact ih v1 x5 M4 hw
theorem m_X3_readsItem_r1 {l : Launch} {g : gT} {F : Nat} {p0 : Option Nat} {M : hM} {Q : Int32 → hM → Prop} (hJ : JOK l g) (hw : wR_X3_readsItem g F 1 p0 M Q) : MG l g yX3_readsItem (ws_ yX3_readsItem cX3_readsItem 3 (some .boolean)) 3 58 [va_rf p0] M (PI Q) := by
  refine MG_of hJ.2.1 (by decide) (cat_r cat_e) (Nat.le_of_ble_eq_true rfl) (fun k hl hg hin hQ hC => ?_)
  subst hl hg
  replace hw : w_X3_readsItem (kg k) F (wR_X3_readsItem (kg k) F 0) p0 M Q := hw
  show GW k 3 M 0 [some (va_rf p0), none, none] []
  refine G_aload_n (pc := 0) (i := 0) hC dX3_readsItem_0 rfl rfl ?_
  refine G_getI (pc := 1) (ci := 2) (C := RX3) (T := TX3) (N := 61) (f := 18) hC rfl in_X3 (Nat.le_of_ble_eq_true rfl) q3392 (fun _ h => h) dX3_readsItem_1 hw (fun x1 hw => ?_)
  refine G_istore_n (pc := 4) (i := 1) (lw := [some (va_rf p0), some (.int x1), none]) hC dX3_readsItem_4 rfl (Nat.le_of_ble_eq_true rfl) rfl ?_
  refine G_aload_n (pc := 5) (i := 0) hC dX3_readsItem_5 rfl rfl ?_
  obtain ⟨b3, rfl, hb, hw⟩ := gThis_e hw
  refine G_callV (pc := 6) (n := 0) (C := "MergeWorkbenchModel") (b := b3) (As := []) (rest := []) hC (m_X3_here hJ hw) (lw_V q3632 q3634 qs58 q108 q3635) hd_X3_here (by decide) (rcv (C := RX3) (T := TX3) (N := 61) hC hb rfl) rfl rfl (st_c cat_e (Nat.le_of_ble_eq_true rfl)) dX3_readsItem_6 (kI fun x4 M2 hw => ?_)
  refine G_bipush (pc := 9) (v := 97) hC dX3_readsItem_9 (by decide) ?_
  refine G_bipush (pc := 11) (v := 122) hC dX3_readsItem_11 (by decide) ?_
  refine G_callS (pc := 13) (n := 3) (As := [.int x4, .int (97 : Int32), .int (122 : Int32)]) (rest := []) hC (m_X3_in hJ hw) (lw_S q3570 q3571 q108 q3572) hd_X3_in.2 (by decide) rfl rfl (st_c cat_e (Nat.le_of_ble_eq_true rfl)) dX3_readsItem_13 (kI fun x6 M5 hw => ?_)
  refine G_if_eq (pc := 16) (tgt := 43) hC dX3_readsItem_16 (by decide) (fun hc => ?_) (fun hc => ?_)
  · replace hw := hw.1 hc
    refine G_aload_n (pc := 43) (i := 0) hC dX3_readsItem_43 rfl rfl ?_
    obtain ⟨hb, hw⟩ := hw
    refine G_callV (pc := 44) (n := 0) (C := "MergeWorkbenchModel") (b := b3) (As := []) (rest := []) hC (m_X3_here hJ hw) (lw_V q3632 q3634 qs58 q108 q3635) hd_X3_here (by decide) (rcv (C := RX3) (T := TX3) (N := 61) hC hb rfl) rfl rfl (st_c cat_e (Nat.le_of_ble_eq_true rfl)) dX3_readsItem_44 (kI fun x8 M7 hw => ?_)
    refine G_bipush (pc := 47) (v := 40) hC dX3_readsItem_47 (by decide) ?_
    refine G_icmp_ne (pc := 49) (tgt := 60) hC dX3_readsItem_49 (by decide) (fun hc => ?_) (fun hc => ?_)
    · replace hw := hw.1 hc
      refine G_loc (lv' := [some (va_rf (some b3)), none, none]) ⟨Or.inr rfl, Or.inl rfl, Or.inr rfl, trivial⟩ ?_
      exact g_X3_readsItem_60_r1 hJ hC hQ hin   M7 hw
    · replace hw := hw.2 hc
      refine G_aload_n (pc := 52) (i := 0) hC dX3_readsItem_52 rfl rfl ?_
      refine G_getI (pc := 53) (ci := 2) (C := RX3) (T := TX3) (N := 61) (f := 17) hC rfl in_X3 (Nat.le_of_ble_eq_true rfl) q3391 (fun _ h => h) dX3_readsItem_53 hw (fun x9 hw => ?_)
      refine G_iconst (pc := 56) (v := 4) hC dX3_readsItem_56 (by decide) ?_
      refine G_icmp_ne (pc := 57) (tgt := 62) hC dX3_readsItem_57 (by decide) (fun hc => ?_) (fun hc => ?_)
      · replace hw := hw.1 hc
        refine G_aload_n (pc := 62) (i := 0) hC dX3_readsItem_62 rfl rfl ?_
        refine G_dup (pc := 63) hC dX3_readsItem_63 (rf_cat _) ?_
        refine G_getI (pc := 64) (ci := 2) (C := RX3) (T := TX3) (N := 61) (f := 17) hC rfl in_X3 (Nat.le_of_ble_eq_true rfl) q3391 (fun _ h => h) dX3_readsItem_64 hw (fun x10 hw => ?_)
        refine G_iconst (pc := 67) (v := 1) hC dX3_readsItem_67 (by decide) ?_
        refine G_iadd (pc := 68) hC dX3_readsItem_68 ?_
        refine G_put (pc := 69) (ci := 2) (C := RX3) (T := TX3) (N := 61) (f := 17) tyX3 hC rfl in_X3 tyX3_ok nmX3 (Nat.le_of_ble_eq_true rfl) q3391 (fun _ h => h) rfl rfl rfl dX3_readsItem_69 hw (fun M11 hw => ?_)
        refine G_aload_n (pc := 72) (i := 0) hC dX3_readsItem_72 rfl rfl ?_
        refine G_dup (pc := 73) hC dX3_readsItem_73 (rf_cat _) ?_
        refine G_getI (pc := 74) (ci := 2) (C := RX3) (T := TX3) (N := 61) (f := 16) hC rfl in_X3 (Nat.le_of_ble_eq_true rfl) q3390 (fun _ h => h) dX3_readsItem_74 hw (fun x12 hw => ?_)
        refine G_iconst (pc := 77) (v := 1) hC dX3_readsItem_77 (by decide) ?_
        refine G_iadd (pc := 78) hC dX3_readsItem_78 ?_
        refine G_put (pc := 79) (ci := 2) (C := RX3) (T := TX3) (N := 61) (f := 16) tyX3 hC rfl in_X3 tyX3_ok nmX3 (Nat.le_of_ble_eq_true rfl) q3390 (fun _ h => h) rfl rfl rfl dX3_readsItem_79 hw (fun M13 hw => ?_)
        refine G_aload_n (pc := 82) (i := 0) hC dX3_readsItem_82 rfl rfl ?_
        refine G_callS (pc := 83) (n := 1) (As := [va_rf (some b3)]) (rest := []) hC (m_X3_readsItem_r0 hJ hw) (lw_S q3629 q3630 q108 q3631) hd_X3_readsItem.2 (by decide) rfl rfl (st_c cat_e (Nat.le_of_ble_eq_true rfl)) dX3_readsItem_83 (kI fun x15 M14 hw => ?_)
        refine G_istore_n (pc := 86) (i := 2) (lw := [some (va_rf (some b3)), some (.int x1), some (.int x15)]) hC dX3_readsItem_86 rfl (Nat.le_of_ble_eq_true rfl) rfl ?_
        exact g_X3_readsItem_87_r1 hJ hC hQ hin _ x1 x15 M14 hw
      · replace hw := hw.2 hc
        refine G_loc (lv' := [some (va_rf (some b3)), none, none]) ⟨Or.inr rfl, Or.inl rfl, Or.inr rfl, trivial⟩ ?_
        exact g_X3_readsItem_60_r1 hJ hC hQ hin   M7 hw
  · replace hw := hw.2 hc
    refine G_aload_n (pc := 19) (i := 0) hC dX3_readsItem_19 rfl rfl ?_
    refine G_aload_n (pc := 20) (i := 0) hC dX3_readsItem_20 rfl rfl ?_
    obtain ⟨hb, hw⟩ := hw
    refine G_callV (pc := 21) (n := 0) (C := "MergeWorkbenchModel") (b := b3) (As := []) (rest := [va_rf (some b3)]) hC (m_X3_here hJ hw) (lw_V q3632 q3634 qs58 q108 q3635) hd_X3_here (by decide) (rcv (C := RX3) (T := TX3) (N := 61) hC hb rfl) rfl rfl (st_c (cat_r cat_e) (Nat.le_of_ble_eq_true rfl)) dX3_readsItem_21 (kI fun x17 M16 hw => ?_)
    refine G_bipush (pc := 24) (v := 97) hC dX3_readsItem_24 (by decide) ?_
    refine G_isub (pc := 26) hC dX3_readsItem_26 ?_
    obtain ⟨hb, hw⟩ := hw
    refine G_callV (pc := 27) (n := 1) (C := "MergeWorkbenchModel") (b := b3) (As := [.int (x17 - (97 : Int32))]) (rest := []) hC (m_X3_comes hJ hw) (lw_V q3636 q3638 qs59 q108 q3639) hd_X3_comes (by decide) (rcv (C := RX3) (T := TX3) (N := 61) hC hb rfl) rfl rfl (st_c cat_e (Nat.le_of_ble_eq_true rfl)) dX3_readsItem_27 (kU fun M18 hw => ?_)
    refine G_aload_n (pc := 30) (i := 0) hC dX3_readsItem_30 rfl rfl ?_
    refine G_dup (pc := 31) hC dX3_readsItem_31 (rf_cat _) ?_
    refine G_getI (pc := 32) (ci := 2) (C := RX3) (T := TX3) (N := 61) (f := 16) hC rfl in_X3 (Nat.le_of_ble_eq_true rfl) q3390 (fun _ h => h) dX3_readsItem_32 hw (fun x19 hw => ?_)
    refine G_iconst (pc := 35) (v := 1) hC dX3_readsItem_35 (by decide) ?_
    refine G_iadd (pc := 36) hC dX3_readsItem_36 ?_
    refine G_put (pc := 37) (ci := 2) (C := RX3) (T := TX3) (N := 61) (f := 16) tyX3 hC rfl in_X3 tyX3_ok nmX3 (Nat.le_of_ble_eq_true rfl) q3390 (fun _ h => h) rfl rfl rfl dX3_readsItem_37 hw (fun M20 hw => ?_)
    refine G_goto (pc := 40) (tgt := 134) hC dX3_readsItem_40 (by decide) ?_
    exact g_X3_readsItem_134_r1 hJ hC hQ hin  x1 M20 hw
theorem g_X3_readsItem_60_r2 {k : kT} {F : Nat} {p0 : Option Nat} {Q : Int32 → hM → Prop} (hJ : JOK (kl k) (kg k)) (hC : CX k 3 cX3_readsItem RX3 (some .boolean) 4 80) (hQ : isQ k (PI Q)) (hin : (kt k).name = "readsItem") : ∀  (M : hM), w_X3_readsItem_60 (kg k) F (wR_X3_readsItem (kg k) F 1) p0 Q  M → GW k 3 M 60 [some (va_rf p0), none, none] [] := by
  intro  M hw
  refine G_iconst (pc := 60) (v := 0) hC dX3_readsItem_60 (by decide) ?_
  exact G_iret (pc := 61) hC rfl hQ dX3_readsItem_61 hw
theorem g_X3_readsItem_134_r2 {k : kT} {F : Nat} {p0 : Option Nat} {Q : Int32 → hM → Prop} (hJ : JOK (kl k) (kg k)) (hC : CX k 3 cX3_readsItem RX3 (some .boolean) 4 80) (hQ : isQ k (PI Q)) (hin : (kt k).name = "readsItem") : ∀ (v1 : Int32) (M : hM), w_X3_readsItem_134 (kg k) F (wR_X3_readsItem (kg k) F 1) p0 Q v1 M → GW k 3 M 134 [some (va_rf p0), some (.int v1), none] [] := by
  intro v1 M hw
  refine G_aload_n (pc := 134) (i := 0) hC dX3_readsItem_134 rfl rfl ?_
  refine G_iload_n (pc := 135) (i := 1) hC dX3_readsItem_135 rfl rfl ?_
  obtain ⟨b2, rfl, hb, hw⟩ := gThis_e hw
  refine G_callV (pc := 136) (n := 1) (C := "MergeWorkbenchModel") (b := b2) (As := [.int v1]) (rest := []) hC (m_X3_repeats hJ hw) (lw_V q3640 q3642 qs60 q108 q3643) hd_X3_repeats (by decide) (rcv (C := RX3) (T := TX3) (N := 61) hC hb rfl) rfl rfl (st_c cat_e (Nat.le_of_ble_eq_true rfl)) dX3_readsItem_136 (kU fun M1 hw => ?_)
  refine G_iconst (pc := 139) (v := 1) hC dX3_readsItem_139 (by decide) ?_
  exact G_iret (pc := 140) hC rfl hQ dX3_readsItem_140 hw
theorem g_X3_readsItem_108_r2 {k : kT} {F : Nat} {p0 : Option Nat} {Q : Int32 → hM → Prop} (hJ : JOK (kl k) (kg k)) (hC : CX k 3 cX3_readsItem RX3 (some .boolean) 4 80) (hQ : isQ k (PI Q)) (hin : (kt k).name = "readsItem") : ∀ (v1 : Int32) (v2 : Int32) (M : hM), w_X3_readsItem_108 (kg k) F (wR_X3_readsItem (kg k) F 1) p0 Q v1 v2 M → GW k 3 M 108 [some (va_rf p0), some (.int v1), some (.int v2)] [] := by
  intro v1 v2 M hw
  refine G_iload_n (pc := 108) (i := 2) hC dX3_readsItem_108 rfl rfl ?_
  refine G_if_ne (pc := 109) (tgt := 114) hC dX3_readsItem_109 (by decide) (fun hc => ?_) (fun hc => ?_)
  · replace hw := hw.1 hc
    refine G_aload_n (pc := 114) (i := 0) hC dX3_readsItem_114 rfl rfl ?_
    refine G_dup (pc := 115) hC dX3_readsItem_115 (rf_cat _) ?_
    refine G_getI (pc := 116) (ci := 2) (C := RX3) (T := TX3) (N := 61) (f := 16) hC rfl in_X3 (Nat.le_of_ble_eq_true rfl) q3390 (fun _ h => h) dX3_readsItem_116 hw (fun x1 hw => ?_)
    refine G_iconst (pc := 119) (v := 1) hC dX3_readsItem_119 (by decide) ?_
    refine G_iadd (pc := 120) hC dX3_readsItem_120 ?_
    refine G_put (pc := 121) (ci := 2) (C := RX3) (T := TX3) (N := 61) (f := 16) tyX3 hC rfl in_X3 tyX3_ok nmX3 (Nat.le_of_ble_eq_true rfl) q3390 (fun _ h => h) rfl rfl rfl dX3_readsItem_121 hw (fun M2 hw => ?_)
    refine G_aload_n (pc := 124) (i := 0) hC dX3_readsItem_124 rfl rfl ?_
    refine G_dup (pc := 125) hC dX3_readsItem_125 (rf_cat _) ?_
    refine G_getI (pc := 126) (ci := 2) (C := RX3) (T := TX3) (N := 61) (f := 17) hC rfl in_X3 (Nat.le_of_ble_eq_true rfl) q3391 (fun _ h => h) dX3_readsItem_126 hw (fun x3 hw => ?_)
    refine G_iconst (pc := 129) (v := 1) hC dX3_readsItem_129 (by decide) ?_
    refine G_isub (pc := 130) hC dX3_readsItem_130 ?_
    refine G_put (pc := 131) (ci := 2) (C := RX3) (T := TX3) (N := 61) (f := 17) tyX3 hC rfl in_X3 tyX3_ok nmX3 (Nat.le_of_ble_eq_true rfl) q3391 (fun _ h => h) rfl rfl rfl dX3_readsItem_131 hw (fun M4 hw => ?_)
    refine G_loc (lv' := [some (va_rf p0), some (.int v1), none]) ⟨Or.inr rfl, Or.inr rfl, Or.inl rfl, trivial⟩ ?_
    exact g_X3_readsItem_134_r2 hJ hC hQ hin  v1 M4 hw
  · replace hw := hw.2 hc
    refine G_iconst (pc := 112) (v := 0) hC dX3_readsItem_112 (by decide) ?_
    exact G_iret (pc := 113) hC rfl hQ dX3_readsItem_113 hw
theorem g_X3_readsItem_87_r2 {k : kT} {F : Nat} {p0 : Option Nat} {Q : Int32 → hM → Prop} (hJ : JOK (kl k) (kg k)) (hC : CX k 3 cX3_readsItem RX3 (some .boolean) 4 80) (hQ : isQ k (PI Q)) (hin : (kt k).name = "readsItem") : ∀ (n : Nat) (v1 : Int32) (v2 : Int32) (M : hM), w_X3_readsItem_87 (kg k) F (wR_X3_readsItem (kg k) F 1) p0 Q n v1 v2 M → GW k 3 M 87 [some (va_rf p0), some (.int v1), some (.int v2)] [] := by
  intro n
  induction n with
  | zero =>
    intro v1 v2 M hw
    exact hw.elim
  | succ n ih =>
    intro v1 v2 M hw
    refine G_iload_n (pc := 87) (i := 2) hC dX3_readsItem_87 rfl rfl ?_
    refine G_if_eq (pc := 88) (tgt := 108) hC dX3_readsItem_88 (by decide) (fun hc => ?_) (fun hc => ?_)
    · replace hw := hw.1 hc
      exact g_X3_readsItem_108_r2 hJ hC hQ hin  v1 v2 M hw
    · replace hw := hw.2 hc
      refine G_aload_n (pc := 91) (i := 0) hC dX3_readsItem_91 rfl rfl ?_
      obtain ⟨b2, rfl, hb, hw⟩ := gThis_e hw
      refine G_callV (pc := 92) (n := 0) (C := "MergeWorkbenchModel") (b := b2) (As := []) (rest := []) hC (m_X3_here hJ hw) (lw_V q3632 q3634 qs58 q108 q3635) hd_X3_here (by decide) (rcv (C := RX3) (T := TX3) (N := 61) hC hb rfl) rfl rfl (st_c cat_e (Nat.le_of_ble_eq_true rfl)) dX3_readsItem_92 (kI fun x3 M1 hw => ?_)
      refine G_bipush (pc := 95) (v := 41) hC dX3_readsItem_95 (by decide) ?_
      refine G_icmp_eq (pc := 97) (tgt := 108) hC dX3_readsItem_97 (by decide) (fun hc => ?_) (fun hc => ?_)
      · replace hw := hw.1 hc
        exact g_X3_readsItem_108_r2 hJ hC hQ hin  v1 v2 M1 hw
      · replace hw := hw.2 hc
        refine G_aload_n (pc := 100) (i := 0) hC dX3_readsItem_100 rfl rfl ?_
        refine G_callS (pc := 101) (n := 1) (As := [va_rf (some b2)]) (rest := []) hC (m_X3_readsItem_r1 hJ hw) (lw_S q3629 q3630 q108 q3631) hd_X3_readsItem.2 (by decide) rfl rfl (st_c cat_e (Nat.le_of_ble_eq_true rfl)) dX3_readsItem_101 (kI fun x5 M4 hw => ?_)
        refine G_istore_n (pc := 104) (i := 2) (lw := [some (va_rf (some b2)), some (.int v1), some (.int x5)]) hC dX3_readsItem_104 rfl (Nat.le_of_ble_eq_true rfl) rfl ?_
        refine G_goto (pc := 105) (tgt := 87) hC dX3_readsItem_105 (by decide) ?_
        exact ih v1 x5 M4 hw
theorem m_X3_readsItem_r2 {l : Launch} {g : gT} {F : Nat} {p0 : Option Nat} {M : hM} {Q : Int32 → hM → Prop} (hJ : JOK l g) (hw : wR_X3_readsItem g F 2 p0 M Q) : MG l g yX3_readsItem (ws_ yX3_readsItem cX3_readsItem 3 (some .boolean)) 4 80 [va_rf p0] M (PI Q) := by
  refine MG_of hJ.2.1 (by decide) (cat_r cat_e) (Nat.le_of_ble_eq_true rfl) (fun k hl hg hin hQ hC => ?_)
  subst hl hg
  replace hw : w_X3_readsItem (kg k) F (wR_X3_readsItem (kg k) F 1) p0 M Q := hw
  show GW k 3 M 0 [some (va_rf p0), none, none] []
  refine G_aload_n (pc := 0) (i := 0) hC dX3_readsItem_0 rfl rfl ?_
  refine G_getI (pc := 1) (ci := 2) (C := RX3) (T := TX3) (N := 61) (f := 18) hC rfl in_X3 (Nat.le_of_ble_eq_true rfl) q3392 (fun _ h => h) dX3_readsItem_1 hw (fun x1 hw => ?_)
  refine G_istore_n (pc := 4) (i := 1) (lw := [some (va_rf p0), some (.int x1), none]) hC dX3_readsItem_4 rfl (Nat.le_of_ble_eq_true rfl) rfl ?_
  refine G_aload_n (pc := 5) (i := 0) hC dX3_readsItem_5 rfl rfl ?_
  obtain ⟨b3, rfl, hb, hw⟩ := gThis_e hw
  refine G_callV (pc := 6) (n := 0) (C := "MergeWorkbenchModel") (b := b3) (As := []) (rest := []) hC (m_X3_here hJ hw) (lw_V q3632 q3634 qs58 q108 q3635) hd_X3_here (by decide) (rcv (C := RX3) (T := TX3) (N := 61) hC hb rfl) rfl rfl (st_c cat_e (Nat.le_of_ble_eq_true rfl)) dX3_readsItem_6 (kI fun x4 M2 hw => ?_)
  refine G_bipush (pc := 9) (v := 97) hC dX3_readsItem_9 (by decide) ?_
  refine G_bipush (pc := 11) (v := 122) hC dX3_readsItem_11 (by decide) ?_
  refine G_callS (pc := 13) (n := 3) (As := [.int x4, .int (97 : Int32), .int (122 : Int32)]) (rest := []) hC (m_X3_in hJ hw) (lw_S q3570 q3571 q108 q3572) hd_X3_in.2 (by decide) rfl rfl (st_c cat_e (Nat.le_of_ble_eq_true rfl)) dX3_readsItem_13 (kI fun x6 M5 hw => ?_)
  refine G_if_eq (pc := 16) (tgt := 43) hC dX3_readsItem_16 (by decide) (fun hc => ?_) (fun hc => ?_)
  · replace hw := hw.1 hc
    refine G_aload_n (pc := 43) (i := 0) hC dX3_readsItem_43 rfl rfl ?_
    obtain ⟨hb, hw⟩ := hw
    refine G_callV (pc := 44) (n := 0) (C := "MergeWorkbenchModel") (b := b3) (As := []) (rest := []) hC (m_X3_here hJ hw) (lw_V q3632 q3634 qs58 q108 q3635) hd_X3_here (by decide) (rcv (C := RX3) (T := TX3) (N := 61) hC hb rfl) rfl rfl (st_c cat_e (Nat.le_of_ble_eq_true rfl)) dX3_readsItem_44 (kI fun x8 M7 hw => ?_)
    refine G_bipush (pc := 47) (v := 40) hC dX3_readsItem_47 (by decide) ?_
    refine G_icmp_ne (pc := 49) (tgt := 60) hC dX3_readsItem_49 (by decide) (fun hc => ?_) (fun hc => ?_)
    · replace hw := hw.1 hc
      refine G_loc (lv' := [some (va_rf (some b3)), none, none]) ⟨Or.inr rfl, Or.inl rfl, Or.inr rfl, trivial⟩ ?_
      exact g_X3_readsItem_60_r2 hJ hC hQ hin   M7 hw
    · replace hw := hw.2 hc
      refine G_aload_n (pc := 52) (i := 0) hC dX3_readsItem_52 rfl rfl ?_
      refine G_getI (pc := 53) (ci := 2) (C := RX3) (T := TX3) (N := 61) (f := 17) hC rfl in_X3 (Nat.le_of_ble_eq_true rfl) q3391 (fun _ h => h) dX3_readsItem_53 hw (fun x9 hw => ?_)
      refine G_iconst (pc := 56) (v := 4) hC dX3_readsItem_56 (by decide) ?_
      refine G_icmp_ne (pc := 57) (tgt := 62) hC dX3_readsItem_57 (by decide) (fun hc => ?_) (fun hc => ?_)
      · replace hw := hw.1 hc
        refine G_aload_n (pc := 62) (i := 0) hC dX3_readsItem_62 rfl rfl ?_
        refine G_dup (pc := 63) hC dX3_readsItem_63 (rf_cat _) ?_
        refine G_getI (pc := 64) (ci := 2) (C := RX3) (T := TX3) (N := 61) (f := 17) hC rfl in_X3 (Nat.le_of_ble_eq_true rfl) q3391 (fun _ h => h) dX3_readsItem_64 hw (fun x10 hw => ?_)
        refine G_iconst (pc := 67) (v := 1) hC dX3_readsItem_67 (by decide) ?_
        refine G_iadd (pc := 68) hC dX3_readsItem_68 ?_
        refine G_put (pc := 69) (ci := 2) (C := RX3) (T := TX3) (N := 61) (f := 17) tyX3 hC rfl in_X3 tyX3_ok nmX3 (Nat.le_of_ble_eq_true rfl) q3391 (fun _ h => h) rfl rfl rfl dX3_readsItem_69 hw (fun M11 hw => ?_)
        refine G_aload_n (pc := 72) (i := 0) hC dX3_readsItem_72 rfl rfl ?_
        refine G_dup (pc := 73) hC dX3_readsItem_73 (rf_cat _) ?_
        refine G_getI (pc := 74) (ci := 2) (C := RX3) (T := TX3) (N := 61) (f := 16) hC rfl in_X3 (Nat.le_of_ble_eq_true rfl) q3390 (fun _ h => h) dX3_readsItem_74 hw (fun x12 hw => ?_)
        refine G_iconst (pc := 77) (v := 1) hC dX3_readsItem_77 (by decide) ?_
        refine G_iadd (pc := 78) hC dX3_readsItem_78 ?_
        refine G_put (pc := 79) (ci := 2) (C := RX3) (T := TX3) (N := 61) (f := 16) tyX3 hC rfl in_X3 tyX3_ok nmX3 (Nat.le_of_ble_eq_true rfl) q3390 (fun _ h => h) rfl rfl rfl dX3_readsItem_79 hw (fun M13 hw => ?_)
        refine G_aload_n (pc := 82) (i := 0) hC dX3_readsItem_82 rfl rfl ?_
        refine G_callS (pc := 83) (n := 1) (As := [va_rf (some b3)]) (rest := []) hC (m_X3_readsItem_r1 hJ hw) (lw_S q3629 q3630 q108 q3631) hd_X3_readsItem.2 (by decide) rfl rfl (st_c cat_e (Nat.le_of_ble_eq_true rfl)) dX3_readsItem_83 (kI fun x15 M14 hw => ?_)
        refine G_istore_n (pc := 86) (i := 2) (lw := [some (va_rf (some b3)), some (.int x1), some (.int x15)]) hC dX3_readsItem_86 rfl (Nat.le_of_ble_eq_true rfl) rfl ?_
        exact g_X3_readsItem_87_r2 hJ hC hQ hin _ x1 x15 M14 hw
      · replace hw := hw.2 hc
        refine G_loc (lv' := [some (va_rf (some b3)), none, none]) ⟨Or.inr rfl, Or.inl rfl, Or.inr rfl, trivial⟩ ?_
        exact g_X3_readsItem_60_r2 hJ hC hQ hin   M7 hw
  · replace hw := hw.2 hc
    refine G_aload_n (pc := 19) (i := 0) hC dX3_readsItem_19 rfl rfl ?_
    refine G_aload_n (pc := 20) (i := 0) hC dX3_readsItem_20 rfl rfl ?_
    obtain ⟨hb, hw⟩ := hw
    refine G_callV (pc := 21) (n := 0) (C := "MergeWorkbenchModel") (b := b3) (As := []) (rest := [va_rf (some b3)]) hC (m_X3_here hJ hw) (lw_V q3632 q3634 qs58 q108 q3635) hd_X3_here (by decide) (rcv (C := RX3) (T := TX3) (N := 61) hC hb rfl) rfl rfl (st_c (cat_r cat_e) (Nat.le_of_ble_eq_true rfl)) dX3_readsItem_21 (kI fun x17 M16 hw => ?_)
    refine G_bipush (pc := 24) (v := 97) hC dX3_readsItem_24 (by decide) ?_
    refine G_isub (pc := 26) hC dX3_readsItem_26 ?_
    obtain ⟨hb, hw⟩ := hw
    refine G_callV (pc := 27) (n := 1) (C := "MergeWorkbenchModel") (b := b3) (As := [.int (x17 - (97 : Int32))]) (rest := []) hC (m_X3_comes hJ hw) (lw_V q3636 q3638 qs59 q108 q3639) hd_X3_comes (by decide) (rcv (C := RX3) (T := TX3) (N := 61) hC hb rfl) rfl rfl (st_c cat_e (Nat.le_of_ble_eq_true rfl)) dX3_readsItem_27 (kU fun M18 hw => ?_)
    refine G_aload_n (pc := 30) (i := 0) hC dX3_readsItem_30 rfl rfl ?_
    refine G_dup (pc := 31) hC dX3_readsItem_31 (rf_cat _) ?_
    refine G_getI (pc := 32) (ci := 2) (C := RX3) (T := TX3) (N := 61) (f := 16) hC rfl in_X3 (Nat.le_of_ble_eq_true rfl) q3390 (fun _ h => h) dX3_readsItem_32 hw (fun x19 hw => ?_)
    refine G_iconst (pc := 35) (v := 1) hC dX3_readsItem_35 (by decide) ?_
    refine G_iadd (pc := 36) hC dX3_readsItem_36 ?_
    refine G_put (pc := 37) (ci := 2) (C := RX3) (T := TX3) (N := 61) (f := 16) tyX3 hC rfl in_X3 tyX3_ok nmX3 (Nat.le_of_ble_eq_true rfl) q3390 (fun _ h => h) rfl rfl rfl dX3_readsItem_37 hw (fun M20 hw => ?_)
    refine G_goto (pc := 40) (tgt := 134) hC dX3_readsItem_40 (by decide) ?_
    exact g_X3_readsItem_134_r2 hJ hC hQ hin  x1 M20 hw
theorem g_X3_readsItem_60_r3 {k : kT} {F : Nat} {p0 : Option Nat} {Q : Int32 → hM → Prop} (hJ : JOK (kl k) (kg k)) (hC : CX k 3 cX3_readsItem RX3 (some .boolean) 5 102) (hQ : isQ k (PI Q)) (hin : (kt k).name = "readsItem") : ∀  (M : hM), w_X3_readsItem_60 (kg k) F (wR_X3_readsItem (kg k) F 2) p0 Q  M → GW k 3 M 60 [some (va_rf p0), none, none] [] := by
  intro  M hw
  refine G_iconst (pc := 60) (v := 0) hC dX3_readsItem_60 (by decide) ?_
  exact G_iret (pc := 61) hC rfl hQ dX3_readsItem_61 hw
theorem g_X3_readsItem_134_r3 {k : kT} {F : Nat} {p0 : Option Nat} {Q : Int32 → hM → Prop} (hJ : JOK (kl k) (kg k)) (hC : CX k 3 cX3_readsItem RX3 (some .boolean) 5 102) (hQ : isQ k (PI Q)) (hin : (kt k).name = "readsItem") : ∀ (v1 : Int32) (M : hM), w_X3_readsItem_134 (kg k) F (wR_X3_readsItem (kg k) F 2) p0 Q v1 M → GW k 3 M 134 [some (va_rf p0), some (.int v1), none] [] := by
  intro v1 M hw
  refine G_aload_n (pc := 134) (i := 0) hC dX3_readsItem_134 rfl rfl ?_
  refine G_iload_n (pc := 135) (i := 1) hC dX3_readsItem_135 rfl rfl ?_
  obtain ⟨b2, rfl, hb, hw⟩ := gThis_e hw
  refine G_callV (pc := 136) (n := 1) (C := "MergeWorkbenchModel") (b := b2) (As := [.int v1]) (rest := []) hC (m_X3_repeats hJ hw) (lw_V q3640 q3642 qs60 q108 q3643) hd_X3_repeats (by decide) (rcv (C := RX3) (T := TX3) (N := 61) hC hb rfl) rfl rfl (st_c cat_e (Nat.le_of_ble_eq_true rfl)) dX3_readsItem_136 (kU fun M1 hw => ?_)
  refine G_iconst (pc := 139) (v := 1) hC dX3_readsItem_139 (by decide) ?_
  exact G_iret (pc := 140) hC rfl hQ dX3_readsItem_140 hw
theorem g_X3_readsItem_108_r3 {k : kT} {F : Nat} {p0 : Option Nat} {Q : Int32 → hM → Prop} (hJ : JOK (kl k) (kg k)) (hC : CX k 3 cX3_readsItem RX3 (some .boolean) 5 102) (hQ : isQ k (PI Q)) (hin : (kt k).name = "readsItem") : ∀ (v1 : Int32) (v2 : Int32) (M : hM), w_X3_readsItem_108 (kg k) F (wR_X3_readsItem (kg k) F 2) p0 Q v1 v2 M → GW k 3 M 108 [some (va_rf p0), some (.int v1), some (.int v2)] [] := by
  intro v1 v2 M hw
  refine G_iload_n (pc := 108) (i := 2) hC dX3_readsItem_108 rfl rfl ?_
  refine G_if_ne (pc := 109) (tgt := 114) hC dX3_readsItem_109 (by decide) (fun hc => ?_) (fun hc => ?_)
  · replace hw := hw.1 hc
    refine G_aload_n (pc := 114) (i := 0) hC dX3_readsItem_114 rfl rfl ?_
    refine G_dup (pc := 115) hC dX3_readsItem_115 (rf_cat _) ?_
    refine G_getI (pc := 116) (ci := 2) (C := RX3) (T := TX3) (N := 61) (f := 16) hC rfl in_X3 (Nat.le_of_ble_eq_true rfl) q3390 (fun _ h => h) dX3_readsItem_116 hw (fun x1 hw => ?_)
    refine G_iconst (pc := 119) (v := 1) hC dX3_readsItem_119 (by decide) ?_
    refine G_iadd (pc := 120) hC dX3_readsItem_120 ?_
    refine G_put (pc := 121) (ci := 2) (C := RX3) (T := TX3) (N := 61) (f := 16) tyX3 hC rfl in_X3 tyX3_ok nmX3 (Nat.le_of_ble_eq_true rfl) q3390 (fun _ h => h) rfl rfl rfl dX3_readsItem_121 hw (fun M2 hw => ?_)
    refine G_aload_n (pc := 124) (i := 0) hC dX3_readsItem_124 rfl rfl ?_
    refine G_dup (pc := 125) hC dX3_readsItem_125 (rf_cat _) ?_
    refine G_getI (pc := 126) (ci := 2) (C := RX3) (T := TX3) (N := 61) (f := 17) hC rfl in_X3 (Nat.le_of_ble_eq_true rfl) q3391 (fun _ h => h) dX3_readsItem_126 hw (fun x3 hw => ?_)
    refine G_iconst (pc := 129) (v := 1) hC dX3_readsItem_129 (by decide) ?_
    refine G_isub (pc := 130) hC dX3_readsItem_130 ?_
    refine G_put (pc := 131) (ci := 2) (C := RX3) (T := TX3) (N := 61) (f := 17) tyX3 hC rfl in_X3 tyX3_ok nmX3 (Nat.le_of_ble_eq_true rfl) q3391 (fun _ h => h) rfl rfl rfl dX3_readsItem_131 hw (fun M4 hw => ?_)
    refine G_loc (lv' := [some (va_rf p0), some (.int v1), none]) ⟨Or.inr rfl, Or.inr rfl, Or.inl rfl, trivial⟩ ?_
    exact g_X3_readsItem_134_r3 hJ hC hQ hin  v1 M4 hw
  · replace hw := hw.2 hc
    refine G_iconst (pc := 112) (v := 0) hC dX3_readsItem_112 (by decide) ?_
    exact G_iret (pc := 113) hC rfl hQ dX3_readsItem_113 hw
theorem g_X3_readsItem_87_r3 {k : kT} {F : Nat} {p0 : Option Nat} {Q : Int32 → hM → Prop} (hJ : JOK (kl k) (kg k)) (hC : CX k 3 cX3_readsItem RX3 (some .boolean) 5 102) (hQ : isQ k (PI Q)) (hin : (kt k).name = "readsItem") : ∀ (n : Nat) (v1 : Int32) (v2 : Int32) (M : hM), w_X3_readsItem_87 (kg k) F (wR_X3_readsItem (kg k) F 2) p0 Q n v1 v2 M → GW k 3 M 87 [some (va_rf p0), some (.int v1), some (.int v2)] [] := by
  intro n
  induction n with
  | zero =>
    intro v1 v2 M hw
    exact hw.elim
  | succ n ih =>
    intro v1 v2 M hw
    refine G_iload_n (pc := 87) (i := 2) hC dX3_readsItem_87 rfl rfl ?_
    refine G_if_eq (pc := 88) (tgt := 108) hC dX3_readsItem_88 (by decide) (fun hc => ?_) (fun hc => ?_)
    · replace hw := hw.1 hc
      exact g_X3_readsItem_108_r3 hJ hC hQ hin  v1 v2 M hw
    · replace hw := hw.2 hc
      refine G_aload_n (pc := 91) (i := 0) hC dX3_readsItem_91 rfl rfl ?_
      obtain ⟨b2, rfl, hb, hw⟩ := gThis_e hw
      refine G_callV (pc := 92) (n := 0) (C := "MergeWorkbenchModel") (b := b2) (As := []) (rest := []) hC (m_X3_here hJ hw) (lw_V q3632 q3634 qs58 q108 q3635) hd_X3_here (by decide) (rcv (C := RX3) (T := TX3) (N := 61) hC hb rfl) rfl rfl (st_c cat_e (Nat.le_of_ble_eq_true rfl)) dX3_readsItem_92 (kI fun x3 M1 hw => ?_)
      refine G_bipush (pc := 95) (v := 41) hC dX3_readsItem_95 (by decide) ?_
      refine G_icmp_eq (pc := 97) (tgt := 108) hC dX3_readsItem_97 (by decide) (fun hc => ?_) (fun hc => ?_)
      · replace hw := hw.1 hc
        exact g_X3_readsItem_108_r3 hJ hC hQ hin  v1 v2 M1 hw
      · replace hw := hw.2 hc
        refine G_aload_n (pc := 100) (i := 0) hC dX3_readsItem_100 rfl rfl ?_
        refine G_callS (pc := 101) (n := 1) (As := [va_rf (some b2)]) (rest := []) hC (m_X3_readsItem_r2 hJ hw) (lw_S q3629 q3630 q108 q3631) hd_X3_readsItem.2 (by decide) rfl rfl (st_c cat_e (Nat.le_of_ble_eq_true rfl)) dX3_readsItem_101 (kI fun x5 M4 hw => ?_)
        refine G_istore_n (pc := 104) (i := 2) (lw := [some (va_rf (some b2)), some (.int v1), some (.int x5)]) hC dX3_readsItem_104 rfl (Nat.le_of_ble_eq_true rfl) rfl ?_
        refine G_goto (pc := 105) (tgt := 87) hC dX3_readsItem_105 (by decide) ?_
        exact ih v1 x5 M4 hw
theorem m_X3_readsItem_r3 {l : Launch} {g : gT} {F : Nat} {p0 : Option Nat} {M : hM} {Q : Int32 → hM → Prop} (hJ : JOK l g) (hw : wR_X3_readsItem g F 3 p0 M Q) : MG l g yX3_readsItem (ws_ yX3_readsItem cX3_readsItem 3 (some .boolean)) 5 102 [va_rf p0] M (PI Q) := by
  refine MG_of hJ.2.1 (by decide) (cat_r cat_e) (Nat.le_of_ble_eq_true rfl) (fun k hl hg hin hQ hC => ?_)
  subst hl hg
  replace hw : w_X3_readsItem (kg k) F (wR_X3_readsItem (kg k) F 2) p0 M Q := hw
  show GW k 3 M 0 [some (va_rf p0), none, none] []
  refine G_aload_n (pc := 0) (i := 0) hC dX3_readsItem_0 rfl rfl ?_
  refine G_getI (pc := 1) (ci := 2) (C := RX3) (T := TX3) (N := 61) (f := 18) hC rfl in_X3 (Nat.le_of_ble_eq_true rfl) q3392 (fun _ h => h) dX3_readsItem_1 hw (fun x1 hw => ?_)
  refine G_istore_n (pc := 4) (i := 1) (lw := [some (va_rf p0), some (.int x1), none]) hC dX3_readsItem_4 rfl (Nat.le_of_ble_eq_true rfl) rfl ?_
  refine G_aload_n (pc := 5) (i := 0) hC dX3_readsItem_5 rfl rfl ?_
  obtain ⟨b3, rfl, hb, hw⟩ := gThis_e hw
  refine G_callV (pc := 6) (n := 0) (C := "MergeWorkbenchModel") (b := b3) (As := []) (rest := []) hC (m_X3_here hJ hw) (lw_V q3632 q3634 qs58 q108 q3635) hd_X3_here (by decide) (rcv (C := RX3) (T := TX3) (N := 61) hC hb rfl) rfl rfl (st_c cat_e (Nat.le_of_ble_eq_true rfl)) dX3_readsItem_6 (kI fun x4 M2 hw => ?_)
  refine G_bipush (pc := 9) (v := 97) hC dX3_readsItem_9 (by decide) ?_
  refine G_bipush (pc := 11) (v := 122) hC dX3_readsItem_11 (by decide) ?_
  refine G_callS (pc := 13) (n := 3) (As := [.int x4, .int (97 : Int32), .int (122 : Int32)]) (rest := []) hC (m_X3_in hJ hw) (lw_S q3570 q3571 q108 q3572) hd_X3_in.2 (by decide) rfl rfl (st_c cat_e (Nat.le_of_ble_eq_true rfl)) dX3_readsItem_13 (kI fun x6 M5 hw => ?_)
  refine G_if_eq (pc := 16) (tgt := 43) hC dX3_readsItem_16 (by decide) (fun hc => ?_) (fun hc => ?_)
  · replace hw := hw.1 hc
    refine G_aload_n (pc := 43) (i := 0) hC dX3_readsItem_43 rfl rfl ?_
    obtain ⟨hb, hw⟩ := hw
    refine G_callV (pc := 44) (n := 0) (C := "MergeWorkbenchModel") (b := b3) (As := []) (rest := []) hC (m_X3_here hJ hw) (lw_V q3632 q3634 qs58 q108 q3635) hd_X3_here (by decide) (rcv (C := RX3) (T := TX3) (N := 61) hC hb rfl) rfl rfl (st_c cat_e (Nat.le_of_ble_eq_true rfl)) dX3_readsItem_44 (kI fun x8 M7 hw => ?_)
    refine G_bipush (pc := 47) (v := 40) hC dX3_readsItem_47 (by decide) ?_
    refine G_icmp_ne (pc := 49) (tgt := 60) hC dX3_readsItem_49 (by decide) (fun hc => ?_) (fun hc => ?_)
    · replace hw := hw.1 hc
      refine G_loc (lv' := [some (va_rf (some b3)), none, none]) ⟨Or.inr rfl, Or.inl rfl, Or.inr rfl, trivial⟩ ?_
      exact g_X3_readsItem_60_r3 hJ hC hQ hin   M7 hw
    · replace hw := hw.2 hc
      refine G_aload_n (pc := 52) (i := 0) hC dX3_readsItem_52 rfl rfl ?_
      refine G_getI (pc := 53) (ci := 2) (C := RX3) (T := TX3) (N := 61) (f := 17) hC rfl in_X3 (Nat.le_of_ble_eq_true rfl) q3391 (fun _ h => h) dX3_readsItem_53 hw (fun x9 hw => ?_)
      refine G_iconst (pc := 56) (v := 4) hC dX3_readsItem_56 (by decide) ?_
      refine G_icmp_ne (pc := 57) (tgt := 62) hC dX3_readsItem_57 (by decide) (fun hc => ?_) (fun hc => ?_)
      · replace hw := hw.1 hc
        refine G_aload_n (pc := 62) (i := 0) hC dX3_readsItem_62 rfl rfl ?_
        refine G_dup (pc := 63) hC dX3_readsItem_63 (rf_cat _) ?_
        refine G_getI (pc := 64) (ci := 2) (C := RX3) (T := TX3) (N := 61) (f := 17) hC rfl in_X3 (Nat.le_of_ble_eq_true rfl) q3391 (fun _ h => h) dX3_readsItem_64 hw (fun x10 hw => ?_)
        refine G_iconst (pc := 67) (v := 1) hC dX3_readsItem_67 (by decide) ?_
        refine G_iadd (pc := 68) hC dX3_readsItem_68 ?_
        refine G_put (pc := 69) (ci := 2) (C := RX3) (T := TX3) (N := 61) (f := 17) tyX3 hC rfl in_X3 tyX3_ok nmX3 (Nat.le_of_ble_eq_true rfl) q3391 (fun _ h => h) rfl rfl rfl dX3_readsItem_69 hw (fun M11 hw => ?_)
        refine G_aload_n (pc := 72) (i := 0) hC dX3_readsItem_72 rfl rfl ?_
        refine G_dup (pc := 73) hC dX3_readsItem_73 (rf_cat _) ?_
        refine G_getI (pc := 74) (ci := 2) (C := RX3) (T := TX3) (N := 61) (f := 16) hC rfl in_X3 (Nat.le_of_ble_eq_true rfl) q3390 (fun _ h => h) dX3_readsItem_74 hw (fun x12 hw => ?_)
        refine G_iconst (pc := 77) (v := 1) hC dX3_readsItem_77 (by decide) ?_
        refine G_iadd (pc := 78) hC dX3_readsItem_78 ?_
        refine G_put (pc := 79) (ci := 2) (C := RX3) (T := TX3) (N := 61) (f := 16) tyX3 hC rfl in_X3 tyX3_ok nmX3 (Nat.le_of_ble_eq_true rfl) q3390 (fun _ h => h) rfl rfl rfl dX3_readsItem_79 hw (fun M13 hw => ?_)
        refine G_aload_n (pc := 82) (i := 0) hC dX3_readsItem_82 rfl rfl ?_
        refine G_callS (pc := 83) (n := 1) (As := [va_rf (some b3)]) (rest := []) hC (m_X3_readsItem_r2 hJ hw) (lw_S q3629 q3630 q108 q3631) hd_X3_readsItem.2 (by decide) rfl rfl (st_c cat_e (Nat.le_of_ble_eq_true rfl)) dX3_readsItem_83 (kI fun x15 M14 hw => ?_)
        refine G_istore_n (pc := 86) (i := 2) (lw := [some (va_rf (some b3)), some (.int x1), some (.int x15)]) hC dX3_readsItem_86 rfl (Nat.le_of_ble_eq_true rfl) rfl ?_
        exact g_X3_readsItem_87_r3 hJ hC hQ hin _ x1 x15 M14 hw
      · replace hw := hw.2 hc
        refine G_loc (lv' := [some (va_rf (some b3)), none, none]) ⟨Or.inr rfl, Or.inl rfl, Or.inr rfl, trivial⟩ ?_
        exact g_X3_readsItem_60_r3 hJ hC hQ hin   M7 hw
  · replace hw := hw.2 hc
    refine G_aload_n (pc := 19) (i := 0) hC dX3_readsItem_19 rfl rfl ?_
    refine G_aload_n (pc := 20) (i := 0) hC dX3_readsItem_20 rfl rfl ?_
    obtain ⟨hb, hw⟩ := hw
    refine G_callV (pc := 21) (n := 0) (C := "MergeWorkbenchModel") (b := b3) (As := []) (rest := [va_rf (some b3)]) hC (m_X3_here hJ hw) (lw_V q3632 q3634 qs58 q108 q3635) hd_X3_here (by decide) (rcv (C := RX3) (T := TX3) (N := 61) hC hb rfl) rfl rfl (st_c (cat_r cat_e) (Nat.le_of_ble_eq_true rfl)) dX3_readsItem_21 (kI fun x17 M16 hw => ?_)
    refine G_bipush (pc := 24) (v := 97) hC dX3_readsItem_24 (by decide) ?_
    refine G_isub (pc := 26) hC dX3_readsItem_26 ?_
    obtain ⟨hb, hw⟩ := hw
    refine G_callV (pc := 27) (n := 1) (C := "MergeWorkbenchModel") (b := b3) (As := [.int (x17 - (97 : Int32))]) (rest := []) hC (m_X3_comes hJ hw) (lw_V q3636 q3638 qs59 q108 q3639) hd_X3_comes (by decide) (rcv (C := RX3) (T := TX3) (N := 61) hC hb rfl) rfl rfl (st_c cat_e (Nat.le_of_ble_eq_true rfl)) dX3_readsItem_27 (kU fun M18 hw => ?_)
    refine G_aload_n (pc := 30) (i := 0) hC dX3_readsItem_30 rfl rfl ?_
    refine G_dup (pc := 31) hC dX3_readsItem_31 (rf_cat _) ?_
    refine G_getI (pc := 32) (ci := 2) (C := RX3) (T := TX3) (N := 61) (f := 16) hC rfl in_X3 (Nat.le_of_ble_eq_true rfl) q3390 (fun _ h => h) dX3_readsItem_32 hw (fun x19 hw => ?_)
    refine G_iconst (pc := 35) (v := 1) hC dX3_readsItem_35 (by decide) ?_
    refine G_iadd (pc := 36) hC dX3_readsItem_36 ?_
    refine G_put (pc := 37) (ci := 2) (C := RX3) (T := TX3) (N := 61) (f := 16) tyX3 hC rfl in_X3 tyX3_ok nmX3 (Nat.le_of_ble_eq_true rfl) q3390 (fun _ h => h) rfl rfl rfl dX3_readsItem_37 hw (fun M20 hw => ?_)
    refine G_goto (pc := 40) (tgt := 134) hC dX3_readsItem_40 (by decide) ?_
    exact g_X3_readsItem_134_r3 hJ hC hQ hin  x1 M20 hw
theorem g_X3_readsItem_60_r4 {k : kT} {F : Nat} {p0 : Option Nat} {Q : Int32 → hM → Prop} (hJ : JOK (kl k) (kg k)) (hC : CX k 3 cX3_readsItem RX3 (some .boolean) 6 124) (hQ : isQ k (PI Q)) (hin : (kt k).name = "readsItem") : ∀  (M : hM), w_X3_readsItem_60 (kg k) F (wR_X3_readsItem (kg k) F 3) p0 Q  M → GW k 3 M 60 [some (va_rf p0), none, none] [] := by
  intro  M hw
  refine G_iconst (pc := 60) (v := 0) hC dX3_readsItem_60 (by decide) ?_
  exact G_iret (pc := 61) hC rfl hQ dX3_readsItem_61 hw
theorem g_X3_readsItem_134_r4 {k : kT} {F : Nat} {p0 : Option Nat} {Q : Int32 → hM → Prop} (hJ : JOK (kl k) (kg k)) (hC : CX k 3 cX3_readsItem RX3 (some .boolean) 6 124) (hQ : isQ k (PI Q)) (hin : (kt k).name = "readsItem") : ∀ (v1 : Int32) (M : hM), w_X3_readsItem_134 (kg k) F (wR_X3_readsItem (kg k) F 3) p0 Q v1 M → GW k 3 M 134 [some (va_rf p0), some (.int v1), none] [] := by
  intro v1 M hw
  refine G_aload_n (pc := 134) (i := 0) hC dX3_readsItem_134 rfl rfl ?_
  refine G_iload_n (pc := 135) (i := 1) hC dX3_readsItem_135 rfl rfl ?_
  obtain ⟨b2, rfl, hb, hw⟩ := gThis_e hw
  refine G_callV (pc := 136) (n := 1) (C := "MergeWorkbenchModel") (b := b2) (As := [.int v1]) (rest := []) hC (m_X3_repeats hJ hw) (lw_V q3640 q3642 qs60 q108 q3643) hd_X3_repeats (by decide) (rcv (C := RX3) (T := TX3) (N := 61) hC hb rfl) rfl rfl (st_c cat_e (Nat.le_of_ble_eq_true rfl)) dX3_readsItem_136 (kU fun M1 hw => ?_)
  refine G_iconst (pc := 139) (v := 1) hC dX3_readsItem_139 (by decide) ?_
  exact G_iret (pc := 140) hC rfl hQ dX3_readsItem_140 hw
theorem g_X3_readsItem_108_r4 {k : kT} {F : Nat} {p0 : Option Nat} {Q : Int32 → hM → Prop} (hJ : JOK (kl k) (kg k)) (hC : CX k 3 cX3_readsItem RX3 (some .boolean) 6 124) (hQ : isQ k (PI Q)) (hin : (kt k).name = "readsItem") : ∀ (v1 : Int32) (v2 : Int32) (M : hM), w_X3_readsItem_108 (kg k) F (wR_X3_readsItem (kg k) F 3) p0 Q v1 v2 M → GW k 3 M 108 [some (va_rf p0), some (.int v1), some (.int v2)] [] := by
  intro v1 v2 M hw
  refine G_iload_n (pc := 108) (i := 2) hC dX3_readsItem_108 rfl rfl ?_
  refine G_if_ne (pc := 109) (tgt := 114) hC dX3_readsItem_109 (by decide) (fun hc => ?_) (fun hc => ?_)
  · replace hw := hw.1 hc
    refine G_aload_n (pc := 114) (i := 0) hC dX3_readsItem_114 rfl rfl ?_
    refine G_dup (pc := 115) hC dX3_readsItem_115 (rf_cat _) ?_
    refine G_getI (pc := 116) (ci := 2) (C := RX3) (T := TX3) (N := 61) (f := 16) hC rfl in_X3 (Nat.le_of_ble_eq_true rfl) q3390 (fun _ h => h) dX3_readsItem_116 hw (fun x1 hw => ?_)
    refine G_iconst (pc := 119) (v := 1) hC dX3_readsItem_119 (by decide) ?_
    refine G_iadd (pc := 120) hC dX3_readsItem_120 ?_
    refine G_put (pc := 121) (ci := 2) (C := RX3) (T := TX3) (N := 61) (f := 16) tyX3 hC rfl in_X3 tyX3_ok nmX3 (Nat.le_of_ble_eq_true rfl) q3390 (fun _ h => h) rfl rfl rfl dX3_readsItem_121 hw (fun M2 hw => ?_)
    refine G_aload_n (pc := 124) (i := 0) hC dX3_readsItem_124 rfl rfl ?_
    refine G_dup (pc := 125) hC dX3_readsItem_125 (rf_cat _) ?_
    refine G_getI (pc := 126) (ci := 2) (C := RX3) (T := TX3) (N := 61) (f := 17) hC rfl in_X3 (Nat.le_of_ble_eq_true rfl) q3391 (fun _ h => h) dX3_readsItem_126 hw (fun x3 hw => ?_)
    refine G_iconst (pc := 129) (v := 1) hC dX3_readsItem_129 (by decide) ?_
    refine G_isub (pc := 130) hC dX3_readsItem_130 ?_
    refine G_put (pc := 131) (ci := 2) (C := RX3) (T := TX3) (N := 61) (f := 17) tyX3 hC rfl in_X3 tyX3_ok nmX3 (Nat.le_of_ble_eq_true rfl) q3391 (fun _ h => h) rfl rfl rfl dX3_readsItem_131 hw (fun M4 hw => ?_)
    refine G_loc (lv' := [some (va_rf p0), some (.int v1), none]) ⟨Or.inr rfl, Or.inr rfl, Or.inl rfl, trivial⟩ ?_
    exact g_X3_readsItem_134_r4 hJ hC hQ hin  v1 M4 hw
  · replace hw := hw.2 hc
    refine G_iconst (pc := 112) (v := 0) hC dX3_readsItem_112 (by decide) ?_
    exact G_iret (pc := 113) hC rfl hQ dX3_readsItem_113 hw
theorem g_X3_readsItem_87_r4 {k : kT} {F : Nat} {p0 : Option Nat} {Q : Int32 → hM → Prop} (hJ : JOK (kl k) (kg k)) (hC : CX k 3 cX3_readsItem RX3 (some .boolean) 6 124) (hQ : isQ k (PI Q)) (hin : (kt k).name = "readsItem") : ∀ (n : Nat) (v1 : Int32) (v2 : Int32) (M : hM), w_X3_readsItem_87 (kg k) F (wR_X3_readsItem (kg k) F 3) p0 Q n v1 v2 M → GW k 3 M 87 [some (va_rf p0), some (.int v1), some (.int v2)] [] := by
  intro n
  induction n with
  | zero =>
    intro v1 v2 M hw
    exact hw.elim
  | succ n ih =>
    intro v1 v2 M hw
    refine G_iload_n (pc := 87) (i := 2) hC dX3_readsItem_87 rfl rfl ?_
    refine G_if_eq (pc := 88) (tgt := 108) hC dX3_readsItem_88 (by decide) (fun hc => ?_) (fun hc => ?_)
    · replace hw := hw.1 hc
      exact g_X3_readsItem_108_r4 hJ hC hQ hin  v1 v2 M hw
    · replace hw := hw.2 hc
      refine G_aload_n (pc := 91) (i := 0) hC dX3_readsItem_91 rfl rfl ?_
      obtain ⟨b2, rfl, hb, hw⟩ := gThis_e hw
      refine G_callV (pc := 92) (n := 0) (C := "MergeWorkbenchModel") (b := b2) (As := []) (rest := []) hC (m_X3_here hJ hw) (lw_V q3632 q3634 qs58 q108 q3635) hd_X3_here (by decide) (rcv (C := RX3) (T := TX3) (N := 61) hC hb rfl) rfl rfl (st_c cat_e (Nat.le_of_ble_eq_true rfl)) dX3_readsItem_92 (kI fun x3 M1 hw => ?_)
      refine G_bipush (pc := 95) (v := 41) hC dX3_readsItem_95 (by decide) ?_
      refine G_icmp_eq (pc := 97) (tgt := 108) hC dX3_readsItem_97 (by decide) (fun hc => ?_) (fun hc => ?_)
      · replace hw := hw.1 hc
        exact g_X3_readsItem_108_r4 hJ hC hQ hin  v1 v2 M1 hw
      · replace hw := hw.2 hc
        refine G_aload_n (pc := 100) (i := 0) hC dX3_readsItem_100 rfl rfl ?_
        refine G_callS (pc := 101) (n := 1) (As := [va_rf (some b2)]) (rest := []) hC (m_X3_readsItem_r3 hJ hw) (lw_S q3629 q3630 q108 q3631) hd_X3_readsItem.2 (by decide) rfl rfl (st_c cat_e (Nat.le_of_ble_eq_true rfl)) dX3_readsItem_101 (kI fun x5 M4 hw => ?_)
        refine G_istore_n (pc := 104) (i := 2) (lw := [some (va_rf (some b2)), some (.int v1), some (.int x5)]) hC dX3_readsItem_104 rfl (Nat.le_of_ble_eq_true rfl) rfl ?_
        refine G_goto (pc := 105) (tgt := 87) hC dX3_readsItem_105 (by decide) ?_
        exact ih v1 x5 M4 hw
theorem m_X3_readsItem_r4 {l : Launch} {g : gT} {F : Nat} {p0 : Option Nat} {M : hM} {Q : Int32 → hM → Prop} (hJ : JOK l g) (hw : wR_X3_readsItem g F 4 p0 M Q) : MG l g yX3_readsItem (ws_ yX3_readsItem cX3_readsItem 3 (some .boolean)) 6 124 [va_rf p0] M (PI Q) := by
  refine MG_of hJ.2.1 (by decide) (cat_r cat_e) (Nat.le_of_ble_eq_true rfl) (fun k hl hg hin hQ hC => ?_)
  subst hl hg
  replace hw : w_X3_readsItem (kg k) F (wR_X3_readsItem (kg k) F 3) p0 M Q := hw
  show GW k 3 M 0 [some (va_rf p0), none, none] []
  refine G_aload_n (pc := 0) (i := 0) hC dX3_readsItem_0 rfl rfl ?_
  refine G_getI (pc := 1) (ci := 2) (C := RX3) (T := TX3) (N := 61) (f := 18) hC rfl in_X3 (Nat.le_of_ble_eq_true rfl) q3392 (fun _ h => h) dX3_readsItem_1 hw (fun x1 hw => ?_)
  refine G_istore_n (pc := 4) (i := 1) (lw := [some (va_rf p0), some (.int x1), none]) hC dX3_readsItem_4 rfl (Nat.le_of_ble_eq_true rfl) rfl ?_
  refine G_aload_n (pc := 5) (i := 0) hC dX3_readsItem_5 rfl rfl ?_
  obtain ⟨b3, rfl, hb, hw⟩ := gThis_e hw
  refine G_callV (pc := 6) (n := 0) (C := "MergeWorkbenchModel") (b := b3) (As := []) (rest := []) hC (m_X3_here hJ hw) (lw_V q3632 q3634 qs58 q108 q3635) hd_X3_here (by decide) (rcv (C := RX3) (T := TX3) (N := 61) hC hb rfl) rfl rfl (st_c cat_e (Nat.le_of_ble_eq_true rfl)) dX3_readsItem_6 (kI fun x4 M2 hw => ?_)
  refine G_bipush (pc := 9) (v := 97) hC dX3_readsItem_9 (by decide) ?_
  refine G_bipush (pc := 11) (v := 122) hC dX3_readsItem_11 (by decide) ?_
  refine G_callS (pc := 13) (n := 3) (As := [.int x4, .int (97 : Int32), .int (122 : Int32)]) (rest := []) hC (m_X3_in hJ hw) (lw_S q3570 q3571 q108 q3572) hd_X3_in.2 (by decide) rfl rfl (st_c cat_e (Nat.le_of_ble_eq_true rfl)) dX3_readsItem_13 (kI fun x6 M5 hw => ?_)
  refine G_if_eq (pc := 16) (tgt := 43) hC dX3_readsItem_16 (by decide) (fun hc => ?_) (fun hc => ?_)
  · replace hw := hw.1 hc
    refine G_aload_n (pc := 43) (i := 0) hC dX3_readsItem_43 rfl rfl ?_
    obtain ⟨hb, hw⟩ := hw
    refine G_callV (pc := 44) (n := 0) (C := "MergeWorkbenchModel") (b := b3) (As := []) (rest := []) hC (m_X3_here hJ hw) (lw_V q3632 q3634 qs58 q108 q3635) hd_X3_here (by decide) (rcv (C := RX3) (T := TX3) (N := 61) hC hb rfl) rfl rfl (st_c cat_e (Nat.le_of_ble_eq_true rfl)) dX3_readsItem_44 (kI fun x8 M7 hw => ?_)
    refine G_bipush (pc := 47) (v := 40) hC dX3_readsItem_47 (by decide) ?_
    refine G_icmp_ne (pc := 49) (tgt := 60) hC dX3_readsItem_49 (by decide) (fun hc => ?_) (fun hc => ?_)
    · replace hw := hw.1 hc
      refine G_loc (lv' := [some (va_rf (some b3)), none, none]) ⟨Or.inr rfl, Or.inl rfl, Or.inr rfl, trivial⟩ ?_
      exact g_X3_readsItem_60_r4 hJ hC hQ hin   M7 hw
    · replace hw := hw.2 hc
      refine G_aload_n (pc := 52) (i := 0) hC dX3_readsItem_52 rfl rfl ?_
      refine G_getI (pc := 53) (ci := 2) (C := RX3) (T := TX3) (N := 61) (f := 17) hC rfl in_X3 (Nat.le_of_ble_eq_true rfl) q3391 (fun _ h => h) dX3_readsItem_53 hw (fun x9 hw => ?_)
      refine G_iconst (pc := 56) (v := 4) hC dX3_readsItem_56 (by decide) ?_
      refine G_icmp_ne (pc := 57) (tgt := 62) hC dX3_readsItem_57 (by decide) (fun hc => ?_) (fun hc => ?_)
      · replace hw := hw.1 hc
        refine G_aload_n (pc := 62) (i := 0) hC dX3_readsItem_62 rfl rfl ?_
        refine G_dup (pc := 63) hC dX3_readsItem_63 (rf_cat _) ?_
        refine G_getI (pc := 64) (ci := 2) (C := RX3) (T := TX3) (N := 61) (f := 17) hC rfl in_X3 (Nat.le_of_ble_eq_true rfl) q3391 (fun _ h => h) dX3_readsItem_64 hw (fun x10 hw => ?_)
        refine G_iconst (pc := 67) (v := 1) hC dX3_readsItem_67 (by decide) ?_
        refine G_iadd (pc := 68) hC dX3_readsItem_68 ?_
        refine G_put (pc := 69) (ci := 2) (C := RX3) (T := TX3) (N := 61) (f := 17) tyX3 hC rfl in_X3 tyX3_ok nmX3 (Nat.le_of_ble_eq_true rfl) q3391 (fun _ h => h) rfl rfl rfl dX3_readsItem_69 hw (fun M11 hw => ?_)
        refine G_aload_n (pc := 72) (i := 0) hC dX3_readsItem_72 rfl rfl ?_
        refine G_dup (pc := 73) hC dX3_readsItem_73 (rf_cat _) ?_
        refine G_getI (pc := 74) (ci := 2) (C := RX3) (T := TX3) (N := 61) (f := 16) hC rfl in_X3 (Nat.le_of_ble_eq_true rfl) q3390 (fun _ h => h) dX3_readsItem_74 hw (fun x12 hw => ?_)
        refine G_iconst (pc := 77) (v := 1) hC dX3_readsItem_77 (by decide) ?_
        refine G_iadd (pc := 78) hC dX3_readsItem_78 ?_
        refine G_put (pc := 79) (ci := 2) (C := RX3) (T := TX3) (N := 61) (f := 16) tyX3 hC rfl in_X3 tyX3_ok nmX3 (Nat.le_of_ble_eq_true rfl) q3390 (fun _ h => h) rfl rfl rfl dX3_readsItem_79 hw (fun M13 hw => ?_)
        refine G_aload_n (pc := 82) (i := 0) hC dX3_readsItem_82 rfl rfl ?_
        refine G_callS (pc := 83) (n := 1) (As := [va_rf (some b3)]) (rest := []) hC (m_X3_readsItem_r3 hJ hw) (lw_S q3629 q3630 q108 q3631) hd_X3_readsItem.2 (by decide) rfl rfl (st_c cat_e (Nat.le_of_ble_eq_true rfl)) dX3_readsItem_83 (kI fun x15 M14 hw => ?_)
        refine G_istore_n (pc := 86) (i := 2) (lw := [some (va_rf (some b3)), some (.int x1), some (.int x15)]) hC dX3_readsItem_86 rfl (Nat.le_of_ble_eq_true rfl) rfl ?_
        exact g_X3_readsItem_87_r4 hJ hC hQ hin _ x1 x15 M14 hw
      · replace hw := hw.2 hc
        refine G_loc (lv' := [some (va_rf (some b3)), none, none]) ⟨Or.inr rfl, Or.inl rfl, Or.inr rfl, trivial⟩ ?_
        exact g_X3_readsItem_60_r4 hJ hC hQ hin   M7 hw
  · replace hw := hw.2 hc
    refine G_aload_n (pc := 19) (i := 0) hC dX3_readsItem_19 rfl rfl ?_
    refine G_aload_n (pc := 20) (i := 0) hC dX3_readsItem_20 rfl rfl ?_
    obtain ⟨hb, hw⟩ := hw
    refine G_callV (pc := 21) (n := 0) (C := "MergeWorkbenchModel") (b := b3) (As := []) (rest := [va_rf (some b3)]) hC (m_X3_here hJ hw) (lw_V q3632 q3634 qs58 q108 q3635) hd_X3_here (by decide) (rcv (C := RX3) (T := TX3) (N := 61) hC hb rfl) rfl rfl (st_c (cat_r cat_e) (Nat.le_of_ble_eq_true rfl)) dX3_readsItem_21 (kI fun x17 M16 hw => ?_)
    refine G_bipush (pc := 24) (v := 97) hC dX3_readsItem_24 (by decide) ?_
    refine G_isub (pc := 26) hC dX3_readsItem_26 ?_
    obtain ⟨hb, hw⟩ := hw
    refine G_callV (pc := 27) (n := 1) (C := "MergeWorkbenchModel") (b := b3) (As := [.int (x17 - (97 : Int32))]) (rest := []) hC (m_X3_comes hJ hw) (lw_V q3636 q3638 qs59 q108 q3639) hd_X3_comes (by decide) (rcv (C := RX3) (T := TX3) (N := 61) hC hb rfl) rfl rfl (st_c cat_e (Nat.le_of_ble_eq_true rfl)) dX3_readsItem_27 (kU fun M18 hw => ?_)
    refine G_aload_n (pc := 30) (i := 0) hC dX3_readsItem_30 rfl rfl ?_
    refine G_dup (pc := 31) hC dX3_readsItem_31 (rf_cat _) ?_
    refine G_getI (pc := 32) (ci := 2) (C := RX3) (T := TX3) (N := 61) (f := 16) hC rfl in_X3 (Nat.le_of_ble_eq_true rfl) q3390 (fun _ h => h) dX3_readsItem_32 hw (fun x19 hw => ?_)
    refine G_iconst (pc := 35) (v := 1) hC dX3_readsItem_35 (by decide) ?_
    refine G_iadd (pc := 36) hC dX3_readsItem_36 ?_
    refine G_put (pc := 37) (ci := 2) (C := RX3) (T := TX3) (N := 61) (f := 16) tyX3 hC rfl in_X3 tyX3_ok nmX3 (Nat.le_of_ble_eq_true rfl) q3390 (fun _ h => h) rfl rfl rfl dX3_readsItem_37 hw (fun M20 hw => ?_)
    refine G_goto (pc := 40) (tgt := 134) hC dX3_readsItem_40 (by decide) ?_
    exact g_X3_readsItem_134_r4 hJ hC hQ hin  x1 M20 hw
theorem g_X3_readsItem_60_r5 {k : kT} {F : Nat} {p0 : Option Nat} {Q : Int32 → hM → Prop} (hJ : JOK (kl k) (kg k)) (hC : CX k 3 cX3_readsItem RX3 (some .boolean) 7 146) (hQ : isQ k (PI Q)) (hin : (kt k).name = "readsItem") : ∀  (M : hM), w_X3_readsItem_60 (kg k) F (wR_X3_readsItem (kg k) F 4) p0 Q  M → GW k 3 M 60 [some (va_rf p0), none, none] [] := by
  intro  M hw
  refine G_iconst (pc := 60) (v := 0) hC dX3_readsItem_60 (by decide) ?_
  exact G_iret (pc := 61) hC rfl hQ dX3_readsItem_61 hw
theorem g_X3_readsItem_134_r5 {k : kT} {F : Nat} {p0 : Option Nat} {Q : Int32 → hM → Prop} (hJ : JOK (kl k) (kg k)) (hC : CX k 3 cX3_readsItem RX3 (some .boolean) 7 146) (hQ : isQ k (PI Q)) (hin : (kt k).name = "readsItem") : ∀ (v1 : Int32) (M : hM), w_X3_readsItem_134 (kg k) F (wR_X3_readsItem (kg k) F 4) p0 Q v1 M → GW k 3 M 134 [some (va_rf p0), some (.int v1), none] [] := by
  intro v1 M hw
  refine G_aload_n (pc := 134) (i := 0) hC dX3_readsItem_134 rfl rfl ?_
  refine G_iload_n (pc := 135) (i := 1) hC dX3_readsItem_135 rfl rfl ?_
  obtain ⟨b2, rfl, hb, hw⟩ := gThis_e hw
  refine G_callV (pc := 136) (n := 1) (C := "MergeWorkbenchModel") (b := b2) (As := [.int v1]) (rest := []) hC (m_X3_repeats hJ hw) (lw_V q3640 q3642 qs60 q108 q3643) hd_X3_repeats (by decide) (rcv (C := RX3) (T := TX3) (N := 61) hC hb rfl) rfl rfl (st_c cat_e (Nat.le_of_ble_eq_true rfl)) dX3_readsItem_136 (kU fun M1 hw => ?_)
  refine G_iconst (pc := 139) (v := 1) hC dX3_readsItem_139 (by decide) ?_
  exact G_iret (pc := 140) hC rfl hQ dX3_readsItem_140 hw
theorem g_X3_readsItem_108_r5 {k : kT} {F : Nat} {p0 : Option Nat} {Q : Int32 → hM → Prop} (hJ : JOK (kl k) (kg k)) (hC : CX k 3 cX3_readsItem RX3 (some .boolean) 7 146) (hQ : isQ k (PI Q)) (hin : (kt k).name = "readsItem") : ∀ (v1 : Int32) (v2 : Int32) (M : hM), w_X3_readsItem_108 (kg k) F (wR_X3_readsItem (kg k) F 4) p0 Q v1 v2 M → GW k 3 M 108 [some (va_rf p0), some (.int v1), some (.int v2)] [] := by
  intro v1 v2 M hw
  refine G_iload_n (pc := 108) (i := 2) hC dX3_readsItem_108 rfl rfl ?_
  refine G_if_ne (pc := 109) (tgt := 114) hC dX3_readsItem_109 (by decide) (fun hc => ?_) (fun hc => ?_)
  · replace hw := hw.1 hc
    refine G_aload_n (pc := 114) (i := 0) hC dX3_readsItem_114 rfl rfl ?_
    refine G_dup (pc := 115) hC dX3_readsItem_115 (rf_cat _) ?_
    refine G_getI (pc := 116) (ci := 2) (C := RX3) (T := TX3) (N := 61) (f := 16) hC rfl in_X3 (Nat.le_of_ble_eq_true rfl) q3390 (fun _ h => h) dX3_readsItem_116 hw (fun x1 hw => ?_)
    refine G_iconst (pc := 119) (v := 1) hC dX3_readsItem_119 (by decide) ?_
    refine G_iadd (pc := 120) hC dX3_readsItem_120 ?_
    refine G_put (pc := 121) (ci := 2) (C := RX3) (T := TX3) (N := 61) (f := 16) tyX3 hC rfl in_X3 tyX3_ok nmX3 (Nat.le_of_ble_eq_true rfl) q3390 (fun _ h => h) rfl rfl rfl dX3_readsItem_121 hw (fun M2 hw => ?_)
    refine G_aload_n (pc := 124) (i := 0) hC dX3_readsItem_124 rfl rfl ?_
    refine G_dup (pc := 125) hC dX3_readsItem_125 (rf_cat _) ?_
    refine G_getI (pc := 126) (ci := 2) (C := RX3) (T := TX3) (N := 61) (f := 17) hC rfl in_X3 (Nat.le_of_ble_eq_true rfl) q3391 (fun _ h => h) dX3_readsItem_126 hw (fun x3 hw => ?_)
    refine G_iconst (pc := 129) (v := 1) hC dX3_readsItem_129 (by decide) ?_
    refine G_isub (pc := 130) hC dX3_readsItem_130 ?_
    refine G_put (pc := 131) (ci := 2) (C := RX3) (T := TX3) (N := 61) (f := 17) tyX3 hC rfl in_X3 tyX3_ok nmX3 (Nat.le_of_ble_eq_true rfl) q3391 (fun _ h => h) rfl rfl rfl dX3_readsItem_131 hw (fun M4 hw => ?_)
    refine G_loc (lv' := [some (va_rf p0), some (.int v1), none]) ⟨Or.inr rfl, Or.inr rfl, Or.inl rfl, trivial⟩ ?_
    exact g_X3_readsItem_134_r5 hJ hC hQ hin  v1 M4 hw
  · replace hw := hw.2 hc
    refine G_iconst (pc := 112) (v := 0) hC dX3_readsItem_112 (by decide) ?_
    exact G_iret (pc := 113) hC rfl hQ dX3_readsItem_113 hw
theorem g_X3_readsItem_87_r5 {k : kT} {F : Nat} {p0 : Option Nat} {Q : Int32 → hM → Prop} (hJ : JOK (kl k) (kg k)) (hC : CX k 3 cX3_readsItem RX3 (some .boolean) 7 146) (hQ : isQ k (PI Q)) (hin : (kt k).name = "readsItem") : ∀ (n : Nat) (v1 : Int32) (v2 : Int32) (M : hM), w_X3_readsItem_87 (kg k) F (wR_X3_readsItem (kg k) F 4) p0 Q n v1 v2 M → GW k 3 M 87 [some (va_rf p0), some (.int v1), some (.int v2)] [] := by
  intro n
  induction n with
  | zero =>
    intro v1 v2 M hw
    exact hw.elim
  | succ n ih =>
    intro v1 v2 M hw
    refine G_iload_n (pc := 87) (i := 2) hC dX3_readsItem_87 rfl rfl ?_
    refine G_if_eq (pc := 88) (tgt := 108) hC dX3_readsItem_88 (by decide) (fun hc => ?_) (fun hc => ?_)
    · replace hw := hw.1 hc
      exact g_X3_readsItem_108_r5 hJ hC hQ hin  v1 v2 M hw
    · replace hw := hw.2 hc
      refine G_aload_n (pc := 91) (i := 0) hC dX3_readsItem_91 rfl rfl ?_
      obtain ⟨b2, rfl, hb, hw⟩ := gThis_e hw
      refine G_callV (pc := 92) (n := 0) (C := "MergeWorkbenchModel") (b := b2) (As := []) (rest := []) hC (m_X3_here hJ hw) (lw_V q3632 q3634 qs58 q108 q3635) hd_X3_here (by decide) (rcv (C := RX3) (T := TX3) (N := 61) hC hb rfl) rfl rfl (st_c cat_e (Nat.le_of_ble_eq_true rfl)) dX3_readsItem_92 (kI fun x3 M1 hw => ?_)
      refine G_bipush (pc := 95) (v := 41) hC dX3_readsItem_95 (by decide) ?_
      refine G_icmp_eq (pc := 97) (tgt := 108) hC dX3_readsItem_97 (by decide) (fun hc => ?_) (fun hc => ?_)
      · replace hw := hw.1 hc
        exact g_X3_readsItem_108_r5 hJ hC hQ hin  v1 v2 M1 hw
      · replace hw := hw.2 hc
        refine G_aload_n (pc := 100) (i := 0) hC dX3_readsItem_100 rfl rfl ?_
        refine G_callS (pc := 101) (n := 1) (As := [va_rf (some b2)]) (rest := []) hC (m_X3_readsItem_r4 hJ hw) (lw_S q3629 q3630 q108 q3631) hd_X3_readsItem.2 (by decide) rfl rfl (st_c cat_e (Nat.le_of_ble_eq_true rfl)) dX3_readsItem_101 (kI fun x5 M4 hw => ?_)
        refine G_istore_n (pc := 104) (i := 2) (lw := [some (va_rf (some b2)), some (.int v1), some (.int x5)]) hC dX3_readsItem_104 rfl (Nat.le_of_ble_eq_true rfl) rfl ?_
        refine G_goto (pc := 105) (tgt := 87) hC dX3_readsItem_105 (by decide) ?_
        exact ih v1 x5 M4 hw
theorem m_X3_readsItem_r5 {l : Launch} {g : gT} {F : Nat} {p0 : Option Nat} {M : hM} {Q : Int32 → hM → Prop} (hJ : JOK l g) (hw : wR_X3_readsItem g F 5 p0 M Q) : MG l g yX3_readsItem (ws_ yX3_readsItem cX3_readsItem 3 (some .boolean)) 7 146 [va_rf p0] M (PI Q) := by
  refine MG_of hJ.2.1 (by decide) (cat_r cat_e) (Nat.le_of_ble_eq_true rfl) (fun k hl hg hin hQ hC => ?_)
  subst hl hg
  replace hw : w_X3_readsItem (kg k) F (wR_X3_readsItem (kg k) F 4) p0 M Q := hw
  show GW k 3 M 0 [some (va_rf p0), none, none] []
  refine G_aload_n (pc := 0) (i := 0) hC dX3_readsItem_0 rfl rfl ?_
  refine G_getI (pc := 1) (ci := 2) (C := RX3) (T := TX3) (N := 61) (f := 18) hC rfl in_X3 (Nat.le_of_ble_eq_true rfl) q3392 (fun _ h => h) dX3_readsItem_1 hw (fun x1 hw => ?_)
  refine G_istore_n (pc := 4) (i := 1) (lw := [some (va_rf p0), some (.int x1), none]) hC dX3_readsItem_4 rfl (Nat.le_of_ble_eq_true rfl) rfl ?_
  refine G_aload_n (pc := 5) (i := 0) hC dX3_readsItem_5 rfl rfl ?_
  obtain ⟨b3, rfl, hb, hw⟩ := gThis_e hw
  refine G_callV (pc := 6) (n := 0) (C := "MergeWorkbenchModel") (b := b3) (As := []) (rest := []) hC (m_X3_here hJ hw) (lw_V q3632 q3634 qs58 q108 q3635) hd_X3_here (by decide) (rcv (C := RX3) (T := TX3) (N := 61) hC hb rfl) rfl rfl (st_c cat_e (Nat.le_of_ble_eq_true rfl)) dX3_readsItem_6 (kI fun x4 M2 hw => ?_)
  refine G_bipush (pc := 9) (v := 97) hC dX3_readsItem_9 (by decide) ?_
  refine G_bipush (pc := 11) (v := 122) hC dX3_readsItem_11 (by decide) ?_
  refine G_callS (pc := 13) (n := 3) (As := [.int x4, .int (97 : Int32), .int (122 : Int32)]) (rest := []) hC (m_X3_in hJ hw) (lw_S q3570 q3571 q108 q3572) hd_X3_in.2 (by decide) rfl rfl (st_c cat_e (Nat.le_of_ble_eq_true rfl)) dX3_readsItem_13 (kI fun x6 M5 hw => ?_)
  refine G_if_eq (pc := 16) (tgt := 43) hC dX3_readsItem_16 (by decide) (fun hc => ?_) (fun hc => ?_)
  · replace hw := hw.1 hc
    refine G_aload_n (pc := 43) (i := 0) hC dX3_readsItem_43 rfl rfl ?_
    obtain ⟨hb, hw⟩ := hw
    refine G_callV (pc := 44) (n := 0) (C := "MergeWorkbenchModel") (b := b3) (As := []) (rest := []) hC (m_X3_here hJ hw) (lw_V q3632 q3634 qs58 q108 q3635) hd_X3_here (by decide) (rcv (C := RX3) (T := TX3) (N := 61) hC hb rfl) rfl rfl (st_c cat_e (Nat.le_of_ble_eq_true rfl)) dX3_readsItem_44 (kI fun x8 M7 hw => ?_)
    refine G_bipush (pc := 47) (v := 40) hC dX3_readsItem_47 (by decide) ?_
    refine G_icmp_ne (pc := 49) (tgt := 60) hC dX3_readsItem_49 (by decide) (fun hc => ?_) (fun hc => ?_)
    · replace hw := hw.1 hc
      refine G_loc (lv' := [some (va_rf (some b3)), none, none]) ⟨Or.inr rfl, Or.inl rfl, Or.inr rfl, trivial⟩ ?_
      exact g_X3_readsItem_60_r5 hJ hC hQ hin   M7 hw
    · replace hw := hw.2 hc
      refine G_aload_n (pc := 52) (i := 0) hC dX3_readsItem_52 rfl rfl ?_
      refine G_getI (pc := 53) (ci := 2) (C := RX3) (T := TX3) (N := 61) (f := 17) hC rfl in_X3 (Nat.le_of_ble_eq_true rfl) q3391 (fun _ h => h) dX3_readsItem_53 hw (fun x9 hw => ?_)
      refine G_iconst (pc := 56) (v := 4) hC dX3_readsItem_56 (by decide) ?_
      refine G_icmp_ne (pc := 57) (tgt := 62) hC dX3_readsItem_57 (by decide) (fun hc => ?_) (fun hc => ?_)
      · replace hw := hw.1 hc
        refine G_aload_n (pc := 62) (i := 0) hC dX3_readsItem_62 rfl rfl ?_
        refine G_dup (pc := 63) hC dX3_readsItem_63 (rf_cat _) ?_
        refine G_getI (pc := 64) (ci := 2) (C := RX3) (T := TX3) (N := 61) (f := 17) hC rfl in_X3 (Nat.le_of_ble_eq_true rfl) q3391 (fun _ h => h) dX3_readsItem_64 hw (fun x10 hw => ?_)
        refine G_iconst (pc := 67) (v := 1) hC dX3_readsItem_67 (by decide) ?_
        refine G_iadd (pc := 68) hC dX3_readsItem_68 ?_
        refine G_put (pc := 69) (ci := 2) (C := RX3) (T := TX3) (N := 61) (f := 17) tyX3 hC rfl in_X3 tyX3_ok nmX3 (Nat.le_of_ble_eq_true rfl) q3391 (fun _ h => h) rfl rfl rfl dX3_readsItem_69 hw (fun M11 hw => ?_)
        refine G_aload_n (pc := 72) (i := 0) hC dX3_readsItem_72 rfl rfl ?_
        refine G_dup (pc := 73) hC dX3_readsItem_73 (rf_cat _) ?_
        refine G_getI (pc := 74) (ci := 2) (C := RX3) (T := TX3) (N := 61) (f := 16) hC rfl in_X3 (Nat.le_of_ble_eq_true rfl) q3390 (fun _ h => h) dX3_readsItem_74 hw (fun x12 hw => ?_)
        refine G_iconst (pc := 77) (v := 1) hC dX3_readsItem_77 (by decide) ?_
        refine G_iadd (pc := 78) hC dX3_readsItem_78 ?_
        refine G_put (pc := 79) (ci := 2) (C := RX3) (T := TX3) (N := 61) (f := 16) tyX3 hC rfl in_X3 tyX3_ok nmX3 (Nat.le_of_ble_eq_true rfl) q3390 (fun _ h => h) rfl rfl rfl dX3_readsItem_79 hw (fun M13 hw => ?_)
        refine G_aload_n (pc := 82) (i := 0) hC dX3_readsItem_82 rfl rfl ?_
        refine G_callS (pc := 83) (n := 1) (As := [va_rf (some b3)]) (rest := []) hC (m_X3_readsItem_r4 hJ hw) (lw_S q3629 q3630 q108 q3631) hd_X3_readsItem.2 (by decide) rfl rfl (st_c cat_e (Nat.le_of_ble_eq_true rfl)) dX3_readsItem_83 (kI fun x15 M14 hw => ?_)
        refine G_istore_n (pc := 86) (i := 2) (lw := [some (va_rf (some b3)), some (.int x1), some (.int x15)]) hC dX3_readsItem_86 rfl (Nat.le_of_ble_eq_true rfl) rfl ?_
        exact g_X3_readsItem_87_r5 hJ hC hQ hin _ x1 x15 M14 hw
      · replace hw := hw.2 hc
        refine G_loc (lv' := [some (va_rf (some b3)), none, none]) ⟨Or.inr rfl, Or.inl rfl, Or.inr rfl, trivial⟩ ?_
        exact g_X3_readsItem_60_r5 hJ hC hQ hin   M7 hw
  · replace hw := hw.2 hc
    refine G_aload_n (pc := 19) (i := 0) hC dX3_readsItem_19 rfl rfl ?_
    refine G_aload_n (pc := 20) (i := 0) hC dX3_readsItem_20 rfl rfl ?_
    obtain ⟨hb, hw⟩ := hw
    refine G_callV (pc := 21) (n := 0) (C := "MergeWorkbenchModel") (b := b3) (As := []) (rest := [va_rf (some b3)]) hC (m_X3_here hJ hw) (lw_V q3632 q3634 qs58 q108 q3635) hd_X3_here (by decide) (rcv (C := RX3) (T := TX3) (N := 61) hC hb rfl) rfl rfl (st_c (cat_r cat_e) (Nat.le_of_ble_eq_true rfl)) dX3_readsItem_21 (kI fun x17 M16 hw => ?_)
    refine G_bipush (pc := 24) (v := 97) hC dX3_readsItem_24 (by decide) ?_
    refine G_isub (pc := 26) hC dX3_readsItem_26 ?_
    obtain ⟨hb, hw⟩ := hw
    refine G_callV (pc := 27) (n := 1) (C := "MergeWorkbenchModel") (b := b3) (As := [.int (x17 - (97 : Int32))]) (rest := []) hC (m_X3_comes hJ hw) (lw_V q3636 q3638 qs59 q108 q3639) hd_X3_comes (by decide) (rcv (C := RX3) (T := TX3) (N := 61) hC hb rfl) rfl rfl (st_c cat_e (Nat.le_of_ble_eq_true rfl)) dX3_readsItem_27 (kU fun M18 hw => ?_)
    refine G_aload_n (pc := 30) (i := 0) hC dX3_readsItem_30 rfl rfl ?_
    refine G_dup (pc := 31) hC dX3_readsItem_31 (rf_cat _) ?_
    refine G_getI (pc := 32) (ci := 2) (C := RX3) (T := TX3) (N := 61) (f := 16) hC rfl in_X3 (Nat.le_of_ble_eq_true rfl) q3390 (fun _ h => h) dX3_readsItem_32 hw (fun x19 hw => ?_)
    refine G_iconst (pc := 35) (v := 1) hC dX3_readsItem_35 (by decide) ?_
    refine G_iadd (pc := 36) hC dX3_readsItem_36 ?_
    refine G_put (pc := 37) (ci := 2) (C := RX3) (T := TX3) (N := 61) (f := 16) tyX3 hC rfl in_X3 tyX3_ok nmX3 (Nat.le_of_ble_eq_true rfl) q3390 (fun _ h => h) rfl rfl rfl dX3_readsItem_37 hw (fun M20 hw => ?_)
    refine G_goto (pc := 40) (tgt := 134) hC dX3_readsItem_40 (by decide) ?_
    exact g_X3_readsItem_134_r5 hJ hC hQ hin  x1 M20 hw
def w_X3_readDocument_58 (g : gT) (F : Nat) (a0 : Nat) (p1 : Int32) (Q : Int32 → hM → Prop) (v2 : Int32) (M : hM) : Prop :=
  pV M (some a0) 2 6 (.int (0 : Int32)) fun M1 => ((¬ v2 = 0 → gI M1 (some a0) 2 18 fun x2 => ((x2 ≤ (24 : Int32) → (isC M1 a0 2 ∧ w_X3_remembers g F a0 p1 M1 (fun M3 => gF M3 (some a0) 2 15 fun x4 => gI M3 (some a0) 2 18 fun x5 => (isC M3 a0 2 ∧ w_X3_holds g F a0 p1 x4 x5 M3 (fun M6 => gI M6 (some a0) 2 18 fun x7 => (isC M6 a0 2 ∧ w_X3_done g F a0 x7 M6 (fun x9 M8 => Q x9 M8))))))) ∧ (¬ (x2 ≤ (24 : Int32)) → (isC M1 a0 2 ∧ w_X3_fails g F a0 (2 : Int32) M1 (fun x11 M10 => Q x11 M10))))) ∧ (v2 = 0 → gI M1 (some a0) 2 16 fun x12 => (isC M1 a0 2 ∧ w_X3_done g F a0 ((-100 : Int32) - x12) M1 (fun x14 M13 => Q x14 M13))))
def w_X3_readDocument_35 (g : gT) (F : Nat) (a0 : Nat) (p1 : Int32) (Q : Int32 → hM → Prop) : Nat → Int32 → hM → Prop
  | 0, _, _ => False
  | n + 1, v2, M => ((v2 = 0 → w_X3_readDocument_58 g F a0 p1 Q v2 M) ∧ (¬ (v2 = 0) → gI M (some a0) 2 16 fun x1 => gI M (some a0) 2 6 fun x2 => ((x2 ≤ x1 → w_X3_readDocument_58 g F a0 p1 Q v2 M) ∧ (¬ (x2 ≤ x1) → wR_X3_readsItem g F 5 (some a0) M (fun x4 M3 => w_X3_readDocument_35 g F a0 p1 Q n x4 M3)))))
def w_X3_readDocument (g : gT) (F : Nat) (a0 : Nat) (p1 : Int32) (M : hM) (Q : Int32 → hM → Prop) : Prop :=
  w_X3_isRegister g F p1 M (fun x2 M1 => ((¬ x2 = 0 → pV M1 (some a0) 2 16 (.int (0 : Int32)) fun M3 => pV M3 (some a0) 2 17 (.int (0 : Int32)) fun M4 => pV M4 (some a0) 2 18 (.int (0 : Int32)) fun M5 => w_X3_readDocument_35 g F a0 p1 Q F (1 : Int32) M5) ∧ (x2 = 0 → pV M1 (some a0) 2 6 (.int (0 : Int32)) fun M6 => (isC M6 a0 2 ∧ w_X3_fails g F a0 (1 : Int32) M6 (fun x8 M7 => Q x8 M7)))))
theorem g_X3_readDocument_58 {k : kT} {F : Nat} {a0 : Nat} {p1 : Int32} {Q : Int32 → hM → Prop} (hJ : JOK (kl k) (kg k)) (hC : CX k 3 cX3_readDocument RX3 (some .int) 8 168) (hQ : isQ k (PI Q)) (hin : (kt k).name = "readDocument") : ∀ (v2 : Int32) (M : hM), w_X3_readDocument_58 (kg k) F a0 p1 Q v2 M → GW k 3 M 58 [some (va_rf (some a0)), some (.int p1), some (.int v2)] [] := by
  intro v2 M hw
  refine G_aload_n (pc := 58) (i := 0) hC dX3_readDocument_58 rfl rfl ?_
  refine G_iconst (pc := 59) (v := 0) hC dX3_readDocument_59 (by decide) ?_
  refine G_put (pc := 60) (ci := 2) (C := RX3) (T := TX3) (N := 61) (f := 6) tyX3 hC rfl in_X3 tyX3_ok nmX3 (Nat.le_of_ble_eq_true rfl) q3380 (fun _ h => h) rfl rfl rfl dX3_readDocument_60 hw (fun M1 hw => ?_)
  refine G_iload_n (pc := 63) (i := 2) hC dX3_readDocument_63 rfl rfl ?_
  refine G_if_ne (pc := 64) (tgt := 79) hC dX3_readDocument_64 (by decide) (fun hc => ?_) (fun hc => ?_)
  · replace hw := hw.1 hc
    refine G_aload_n (pc := 79) (i := 0) hC dX3_readDocument_79 rfl rfl ?_
    refine G_getI (pc := 80) (ci := 2) (C := RX3) (T := TX3) (N := 61) (f := 18) hC rfl in_X3 (Nat.le_of_ble_eq_true rfl) q3392 (fun _ h => h) dX3_readDocument_80 hw (fun x2 hw => ?_)
    refine G_bipush (pc := 83) (v := 24) hC dX3_readDocument_83 (by decide) ?_
    refine G_icmp_le (pc := 85) (tgt := 94) hC dX3_readDocument_85 (by decide) (fun hc => ?_) (fun hc => ?_)
    · replace hw := hw.1 hc
      refine G_aload_n (pc := 94) (i := 0) hC dX3_readDocument_94 rfl rfl ?_
      refine G_iload_n (pc := 95) (i := 1) hC dX3_readDocument_95 rfl rfl ?_
      obtain ⟨hb, hw⟩ := hw
      refine G_callV (pc := 96) (n := 1) (C := "MergeWorkbenchModel") (b := a0) (As := [.int p1]) (rest := []) hC (m_X3_remembers hJ hw) (lw_V q3577 q3579 qs53 q108 q3580) hd_X3_remembers (by decide) (rcv (C := RX3) (T := TX3) (N := 61) hC hb rfl) rfl rfl (st_c cat_e (Nat.le_of_ble_eq_true rfl)) dX3_readDocument_96 (kU fun M3 hw => ?_)
      refine G_aload_n (pc := 99) (i := 0) hC dX3_readDocument_99 rfl rfl ?_
      refine G_iload_n (pc := 100) (i := 1) hC dX3_readDocument_100 rfl rfl ?_
      refine G_aload_n (pc := 101) (i := 0) hC dX3_readDocument_101 rfl rfl ?_
      refine G_getF (pc := 102) (ci := 2) (C := RX3) (T := TX3) (N := 61) (f := 15) hC rfl in_X3 (Nat.le_of_ble_eq_true rfl) q3389 (fun _ h => h) dX3_readDocument_102 hw (fun x4 hw => ?_)
      refine G_aload_n (pc := 105) (i := 0) hC dX3_readDocument_105 rfl rfl ?_
      refine G_getI (pc := 106) (ci := 2) (C := RX3) (T := TX3) (N := 61) (f := 18) hC rfl in_X3 (Nat.le_of_ble_eq_true rfl) q3392 (fun _ h => h) dX3_readDocument_106 hw (fun x5 hw => ?_)
      obtain ⟨hb, hw⟩ := hw
      refine G_callV (pc := 109) (n := 3) (C := "MergeWorkbenchModel") (b := a0) (As := [.int p1, va_rf x4, .int x5]) (rest := []) hC (m_X3_holds hJ hw) (lw_V q3605 q3607 qs55 q108 q3608) hd_X3_holds (by decide) (rcv (C := RX3) (T := TX3) (N := 61) hC hb rfl) rfl rfl (st_c cat_e (Nat.le_of_ble_eq_true rfl)) dX3_readDocument_109 (kU fun M6 hw => ?_)
      refine G_aload_n (pc := 112) (i := 0) hC dX3_readDocument_112 rfl rfl ?_
      refine G_aload_n (pc := 113) (i := 0) hC dX3_readDocument_113 rfl rfl ?_
      refine G_getI (pc := 114) (ci := 2) (C := RX3) (T := TX3) (N := 61) (f := 18) hC rfl in_X3 (Nat.le_of_ble_eq_true rfl) q3392 (fun _ h => h) dX3_readDocument_114 hw (fun x7 hw => ?_)
      obtain ⟨hb, hw⟩ := hw
      refine G_callV (pc := 117) (n := 1) (C := "MergeWorkbenchModel") (b := a0) (As := [.int x7]) (rest := []) hC (m_X3_done hJ hw) (lw_V q3581 q3583 qs54 q108 q3584) hd_X3_done (by decide) (rcv (C := RX3) (T := TX3) (N := 61) hC hb rfl) rfl rfl (st_c cat_e (Nat.le_of_ble_eq_true rfl)) dX3_readDocument_117 (kI fun x9 M8 hw => ?_)
      exact G_iret (pc := 120) hC rfl hQ dX3_readDocument_120 hw
    · replace hw := hw.2 hc
      refine G_aload_n (pc := 88) (i := 0) hC dX3_readDocument_88 rfl rfl ?_
      refine G_iconst (pc := 89) (v := 2) hC dX3_readDocument_89 (by decide) ?_
      obtain ⟨hb, hw⟩ := hw
      refine G_callV (pc := 90) (n := 1) (C := "MergeWorkbenchModel") (b := a0) (As := [.int (2 : Int32)]) (rest := []) hC (m_X3_fails hJ hw) (lw_V q3573 q3575 qs52 q108 q3576) hd_X3_fails (by decide) (rcv (C := RX3) (T := TX3) (N := 61) hC hb rfl) rfl rfl (st_c cat_e (Nat.le_of_ble_eq_true rfl)) dX3_readDocument_90 (kI fun x11 M10 hw => ?_)
      exact G_iret (pc := 93) hC rfl hQ dX3_readDocument_93 hw
  · replace hw := hw.2 hc
    refine G_aload_n (pc := 67) (i := 0) hC dX3_readDocument_67 rfl rfl ?_
    refine G_bipush (pc := 68) (v := -100) hC dX3_readDocument_68 (by decide) ?_
    refine G_aload_n (pc := 70) (i := 0) hC dX3_readDocument_70 rfl rfl ?_
    refine G_getI (pc := 71) (ci := 2) (C := RX3) (T := TX3) (N := 61) (f := 16) hC rfl in_X3 (Nat.le_of_ble_eq_true rfl) q3390 (fun _ h => h) dX3_readDocument_71 hw (fun x12 hw => ?_)
    refine G_isub (pc := 74) hC dX3_readDocument_74 ?_
    obtain ⟨hb, hw⟩ := hw
    refine G_callV (pc := 75) (n := 1) (C := "MergeWorkbenchModel") (b := a0) (As := [.int ((-100 : Int32) - x12)]) (rest := []) hC (m_X3_done hJ hw) (lw_V q3581 q3583 qs54 q108 q3584) hd_X3_done (by decide) (rcv (C := RX3) (T := TX3) (N := 61) hC hb rfl) rfl rfl (st_c cat_e (Nat.le_of_ble_eq_true rfl)) dX3_readDocument_75 (kI fun x14 M13 hw => ?_)
    exact G_iret (pc := 78) hC rfl hQ dX3_readDocument_78 hw
theorem g_X3_readDocument_35 {k : kT} {F : Nat} {a0 : Nat} {p1 : Int32} {Q : Int32 → hM → Prop} (hJ : JOK (kl k) (kg k)) (hC : CX k 3 cX3_readDocument RX3 (some .int) 8 168) (hQ : isQ k (PI Q)) (hin : (kt k).name = "readDocument") : ∀ (n : Nat) (v2 : Int32) (M : hM), w_X3_readDocument_35 (kg k) F a0 p1 Q n v2 M → GW k 3 M 35 [some (va_rf (some a0)), some (.int p1), some (.int v2)] [] := by
  intro n
  induction n with
  | zero =>
    intro v2 M hw
    exact hw.elim
  | succ n ih =>
    intro v2 M hw
    refine G_iload_n (pc := 35) (i := 2) hC dX3_readDocument_35 rfl rfl ?_
    refine G_if_eq (pc := 36) (tgt := 58) hC dX3_readDocument_36 (by decide) (fun hc => ?_) (fun hc => ?_)
    · replace hw := hw.1 hc
      exact g_X3_readDocument_58 hJ hC hQ hin  v2 M hw
    · replace hw := hw.2 hc
      refine G_aload_n (pc := 39) (i := 0) hC dX3_readDocument_39 rfl rfl ?_
      refine G_getI (pc := 40) (ci := 2) (C := RX3) (T := TX3) (N := 61) (f := 16) hC rfl in_X3 (Nat.le_of_ble_eq_true rfl) q3390 (fun _ h => h) dX3_readDocument_40 hw (fun x1 hw => ?_)
      refine G_aload_n (pc := 43) (i := 0) hC dX3_readDocument_43 rfl rfl ?_
      refine G_getI (pc := 44) (ci := 2) (C := RX3) (T := TX3) (N := 61) (f := 6) hC rfl in_X3 (Nat.le_of_ble_eq_true rfl) q3380 (fun _ h => h) dX3_readDocument_44 hw (fun x2 hw => ?_)
      refine G_icmp_ge (pc := 47) (tgt := 58) hC dX3_readDocument_47 (by decide) (fun hc => ?_) (fun hc => ?_)
      · replace hw := hw.1 hc
        exact g_X3_readDocument_58 hJ hC hQ hin  v2 M hw
      · replace hw := hw.2 hc
        refine G_aload_n (pc := 50) (i := 0) hC dX3_readDocument_50 rfl rfl ?_
        refine G_callS (pc := 51) (n := 1) (As := [va_rf (some a0)]) (rest := []) hC (m_X3_readsItem_r5 hJ hw) (lw_S q3629 q3630 q108 q3631) hd_X3_readsItem.2 (by decide) rfl rfl (st_c cat_e (Nat.le_of_ble_eq_true rfl)) dX3_readDocument_51 (kI fun x4 M3 hw => ?_)
        refine G_istore_n (pc := 54) (i := 2) (lw := [some (va_rf (some a0)), some (.int p1), some (.int x4)]) hC dX3_readDocument_54 rfl (Nat.le_of_ble_eq_true rfl) rfl ?_
        refine G_goto (pc := 55) (tgt := 35) hC dX3_readDocument_55 (by decide) ?_
        exact ih x4 M3 hw
theorem m_X3_readDocument {l : Launch} {g : gT} {F : Nat} {a0 : Nat} {p1 : Int32} {M : hM} {Q : Int32 → hM → Prop} (hJ : JOK l g) (hw : w_X3_readDocument g F a0 p1 M Q) : MG l g yX3_readDocument (ws_ yX3_readDocument cX3_readDocument 3 (some .int)) 8 168 [va_rf (some a0), .int p1] M (PI Q) := by
  refine MG_of hJ.2.1 (by decide) (cat_r (cat_i cat_e)) (Nat.le_of_ble_eq_true rfl) (fun k hl hg hin hQ hC => ?_)
  subst hl hg
  show GW k 3 M 0 [some (va_rf (some a0)), some (.int p1), none] []
  refine G_iload_n (pc := 0) (i := 1) hC dX3_readDocument_0 rfl rfl ?_
  refine G_callS (pc := 1) (n := 1) (As := [.int p1]) (rest := []) hC (m_X3_isRegister hJ hw) (lw_S q3567 q3568 q108 q3569) hd_X3_isRegister.2 (by decide) rfl rfl (st_c cat_e (Nat.le_of_ble_eq_true rfl)) dX3_readDocument_1 (kI fun x2 M1 hw => ?_)
  refine G_if_ne (pc := 4) (tgt := 18) hC dX3_readDocument_4 (by decide) (fun hc => ?_) (fun hc => ?_)
  · replace hw := hw.1 hc
    refine G_aload_n (pc := 18) (i := 0) hC dX3_readDocument_18 rfl rfl ?_
    refine G_iconst (pc := 19) (v := 0) hC dX3_readDocument_19 (by decide) ?_
    refine G_put (pc := 20) (ci := 2) (C := RX3) (T := TX3) (N := 61) (f := 16) tyX3 hC rfl in_X3 tyX3_ok nmX3 (Nat.le_of_ble_eq_true rfl) q3390 (fun _ h => h) rfl rfl rfl dX3_readDocument_20 hw (fun M3 hw => ?_)
    refine G_aload_n (pc := 23) (i := 0) hC dX3_readDocument_23 rfl rfl ?_
    refine G_iconst (pc := 24) (v := 0) hC dX3_readDocument_24 (by decide) ?_
    refine G_put (pc := 25) (ci := 2) (C := RX3) (T := TX3) (N := 61) (f := 17) tyX3 hC rfl in_X3 tyX3_ok nmX3 (Nat.le_of_ble_eq_true rfl) q3391 (fun _ h => h) rfl rfl rfl dX3_readDocument_25 hw (fun M4 hw => ?_)
    refine G_aload_n (pc := 28) (i := 0) hC dX3_readDocument_28 rfl rfl ?_
    refine G_iconst (pc := 29) (v := 0) hC dX3_readDocument_29 (by decide) ?_
    refine G_put (pc := 30) (ci := 2) (C := RX3) (T := TX3) (N := 61) (f := 18) tyX3 hC rfl in_X3 tyX3_ok nmX3 (Nat.le_of_ble_eq_true rfl) q3392 (fun _ h => h) rfl rfl rfl dX3_readDocument_30 hw (fun M5 hw => ?_)
    refine G_iconst (pc := 33) (v := 1) hC dX3_readDocument_33 (by decide) ?_
    refine G_istore_n (pc := 34) (i := 2) (lw := [some (va_rf (some a0)), some (.int p1), some (.int (1 : Int32))]) hC dX3_readDocument_34 rfl (Nat.le_of_ble_eq_true rfl) rfl ?_
    exact g_X3_readDocument_35 hJ hC hQ hin _ (1 : Int32) M5 hw
  · replace hw := hw.2 hc
    refine G_aload_n (pc := 7) (i := 0) hC dX3_readDocument_7 rfl rfl ?_
    refine G_iconst (pc := 8) (v := 0) hC dX3_readDocument_8 (by decide) ?_
    refine G_put (pc := 9) (ci := 2) (C := RX3) (T := TX3) (N := 61) (f := 6) tyX3 hC rfl in_X3 tyX3_ok nmX3 (Nat.le_of_ble_eq_true rfl) q3380 (fun _ h => h) rfl rfl rfl dX3_readDocument_9 hw (fun M6 hw => ?_)
    refine G_aload_n (pc := 12) (i := 0) hC dX3_readDocument_12 rfl rfl ?_
    refine G_iconst (pc := 13) (v := 1) hC dX3_readDocument_13 (by decide) ?_
    obtain ⟨hb, hw⟩ := hw
    refine G_callV (pc := 14) (n := 1) (C := "MergeWorkbenchModel") (b := a0) (As := [.int (1 : Int32)]) (rest := []) hC (m_X3_fails hJ hw) (lw_V q3573 q3575 qs52 q108 q3576) hd_X3_fails (by decide) (rcv (C := RX3) (T := TX3) (N := 61) hC hb rfl) rfl rfl (st_c cat_e (Nat.le_of_ble_eq_true rfl)) dX3_readDocument_14 (kI fun x8 M7 hw => ?_)
    exact G_iret (pc := 17) hC rfl hQ dX3_readDocument_17 hw
def w_X3_takes_2 (g : gT) (F : Nat) (a0 : Nat) (p1 : Int32) (p2 : Option Nat) (Q : Int32 → hM → Prop) : Nat → Int32 → hM → Prop
  | 0, _, _ => False
  | n + 1, v3, M => gF M (some a0) 2 2 fun x1 => aI M x1 0 p1 fun x2 => ((x2 ≤ v3 → gF M (some a0) 2 2 fun x3 => aI M x3 0 p1 fun x4 => Q x4 M) ∧ (¬ (x2 ≤ v3) → gF M (some a0) 2 1 fun x5 => aI M x5 0 (((24 : Int32) * p1) + v3) fun x6 => sI M p2 0 v3 x6 fun M7 => w_X3_takes_2 g F a0 p1 p2 Q n (v3 + (1 : Int32)) M7))
def w_X3_takes (g : gT) (F : Nat) (a0 : Nat) (p1 : Int32) (p2 : Option Nat) (M : hM) (Q : Int32 → hM → Prop) : Prop :=
  w_X3_takes_2 g F a0 p1 p2 Q F (0 : Int32) M
theorem g_X3_takes_2 {k : kT} {F : Nat} {a0 : Nat} {p1 : Int32} {p2 : Option Nat} {Q : Int32 → hM → Prop} (hJ : JOK (kl k) (kg k)) (hC : CX k 4 cX3_takes RX3 (some .int) 1 12) (hQ : isQ k (PI Q)) (hin : (kt k).name = "takes") : ∀ (n : Nat) (v3 : Int32) (M : hM), w_X3_takes_2 (kg k) F a0 p1 p2 Q n v3 M → GW k 4 M 2 [some (va_rf (some a0)), some (.int p1), some (va_rf p2), some (.int v3)] [] := by
  intro n
  induction n with
  | zero =>
    intro v3 M hw
    exact hw.elim
  | succ n ih =>
    intro v3 M hw
    refine G_iload_n (pc := 2) (i := 3) hC dX3_takes_2 rfl rfl ?_
    refine G_aload_n (pc := 3) (i := 0) hC dX3_takes_3 rfl rfl ?_
    refine G_getF (pc := 4) (ci := 2) (C := RX3) (T := TX3) (N := 61) (f := 2) hC rfl in_X3 (Nat.le_of_ble_eq_true rfl) q3376 (fun _ h => h) dX3_takes_4 hw (fun x1 hw => ?_)
    refine G_iload_n (pc := 7) (i := 1) hC dX3_takes_7 rfl rfl ?_
    refine G_iald (pc := 8) hC dX3_takes_8 hw (fun x2 hw => ?_)
    refine G_icmp_ge (pc := 9) (tgt := 32) hC dX3_takes_9 (by decide) (fun hc => ?_) (fun hc => ?_)
    · replace hw := hw.1 hc
      refine G_aload_n (pc := 32) (i := 0) hC dX3_takes_32 rfl rfl ?_
      refine G_getF (pc := 33) (ci := 2) (C := RX3) (T := TX3) (N := 61) (f := 2) hC rfl in_X3 (Nat.le_of_ble_eq_true rfl) q3376 (fun _ h => h) dX3_takes_33 hw (fun x3 hw => ?_)
      refine G_iload_n (pc := 36) (i := 1) hC dX3_takes_36 rfl rfl ?_
      refine G_iald (pc := 37) hC dX3_takes_37 hw (fun x4 hw => ?_)
      exact G_iret (pc := 38) hC rfl hQ dX3_takes_38 hw
    · replace hw := hw.2 hc
      refine G_aload_n (pc := 12) (i := 2) hC dX3_takes_12 rfl rfl ?_
      refine G_iload_n (pc := 13) (i := 3) hC dX3_takes_13 rfl rfl ?_
      refine G_aload_n (pc := 14) (i := 0) hC dX3_takes_14 rfl rfl ?_
      refine G_getF (pc := 15) (ci := 2) (C := RX3) (T := TX3) (N := 61) (f := 1) hC rfl in_X3 (Nat.le_of_ble_eq_true rfl) q3375 (fun _ h => h) dX3_takes_15 hw (fun x5 hw => ?_)
      refine G_bipush (pc := 18) (v := 24) hC dX3_takes_18 (by decide) ?_
      refine G_iload_n (pc := 20) (i := 1) hC dX3_takes_20 rfl rfl ?_
      refine G_imul (pc := 21) hC dX3_takes_21 ?_
      refine G_iload_n (pc := 22) (i := 3) hC dX3_takes_22 rfl rfl ?_
      refine G_iadd (pc := 23) hC dX3_takes_23 ?_
      refine G_iald (pc := 24) hC dX3_takes_24 hw (fun x6 hw => ?_)
      refine G_iast (pc := 25) hC dX3_takes_25 hw (fun M7 hw => ?_)
      refine G_iinc (pc := 26) (i := 3) (v := (v3 + (1 : Int32))) (lw := [some (va_rf (some a0)), some (.int p1), some (va_rf p2), some (.int (v3 + (1 : Int32)))]) hC dX3_takes_26 rfl (Nat.le_of_ble_eq_true rfl) rfl rfl ?_
      refine G_goto (pc := 29) (tgt := 2) hC dX3_takes_29 (by decide) ?_
      exact ih (v3 + (1 : Int32)) M7 hw
theorem m_X3_takes {l : Launch} {g : gT} {F : Nat} {a0 : Nat} {p1 : Int32} {p2 : Option Nat} {M : hM} {Q : Int32 → hM → Prop} (hJ : JOK l g) (hw : w_X3_takes g F a0 p1 p2 M Q) : MG l g yX3_takes (ws_ yX3_takes cX3_takes 4 (some .int)) 1 12 [va_rf (some a0), .int p1, va_rf p2] M (PI Q) := by
  refine MG_of hJ.2.1 (by decide) (cat_r (cat_i (cat_r cat_e))) (Nat.le_of_ble_eq_true rfl) (fun k hl hg hin hQ hC => ?_)
  subst hl hg
  show GW k 4 M 0 [some (va_rf (some a0)), some (.int p1), some (va_rf p2), none] []
  refine G_iconst (pc := 0) (v := 0) hC dX3_takes_0 (by decide) ?_
  refine G_istore_n (pc := 1) (i := 3) (lw := [some (va_rf (some a0)), some (.int p1), some (va_rf p2), some (.int (0 : Int32))]) hC dX3_takes_1 rfl (Nat.le_of_ble_eq_true rfl) rfl ?_
  exact g_X3_takes_2 hJ hC hQ hin _ (0 : Int32) M hw
def w_X3_longestOf (g : gT) (F : Nat) (a0 : Nat) (p1 : Int32) (p2 : Int32) (M : hM) (Q : Int32 → hM → Prop) : Prop :=
  gF M (some a0) 2 19 fun x1 => aI M x1 0 (((25 : Int32) * p1) + p2) fun x2 => Q x2 M
theorem m_X3_longestOf {l : Launch} {g : gT} {F : Nat} {a0 : Nat} {p1 : Int32} {p2 : Int32} {M : hM} {Q : Int32 → hM → Prop} (hJ : JOK l g) (hw : w_X3_longestOf g F a0 p1 p2 M Q) : MG l g yX3_longestOf (ws_ yX3_longestOf cX3_longestOf 3 (some .int)) 1 12 [va_rf (some a0), .int p1, .int p2] M (PI Q) := by
  refine MG_of hJ.2.1 (by decide) (cat_r (cat_i (cat_i cat_e))) (Nat.le_of_ble_eq_true rfl) (fun k hl hg hin hQ hC => ?_)
  subst hl hg
  show GW k 3 M 0 [some (va_rf (some a0)), some (.int p1), some (.int p2)] []
  refine G_aload_n (pc := 0) (i := 0) hC dX3_longestOf_0 rfl rfl ?_
  refine G_getF (pc := 1) (ci := 2) (C := RX3) (T := TX3) (N := 61) (f := 19) hC rfl in_X3 (Nat.le_of_ble_eq_true rfl) q3393 (fun _ h => h) dX3_longestOf_1 hw (fun x1 hw => ?_)
  refine G_bipush (pc := 4) (v := 25) hC dX3_longestOf_4 (by decide) ?_
  refine G_iload_n (pc := 6) (i := 1) hC dX3_longestOf_6 rfl rfl ?_
  refine G_imul (pc := 7) hC dX3_longestOf_7 ?_
  refine G_iload_n (pc := 8) (i := 2) hC dX3_longestOf_8 rfl rfl ?_
  refine G_iadd (pc := 9) hC dX3_longestOf_9 ?_
  refine G_iald (pc := 10) hC dX3_longestOf_10 hw (fun x2 hw => ?_)
  exact G_iret (pc := 11) hC rfl hQ dX3_longestOf_11 hw
def w_X3_most_10 (g : gT) (F : Nat) (p0 : Int32) (p1 : Int32) (Q : Int32 → hM → Prop) (s0 : Int32) (M : hM) : Prop :=
  Q s0 M
def w_X3_most (g : gT) (F : Nat) (p0 : Int32) (p1 : Int32) (M : hM) (Q : Int32 → hM → Prop) : Prop :=
  ((p0 ≤ p1 → w_X3_most_10 g F p0 p1 Q p1 M) ∧ (¬ (p0 ≤ p1) → w_X3_most_10 g F p0 p1 Q p0 M))
theorem g_X3_most_10 {k : kT} {F : Nat} {p0 : Int32} {p1 : Int32} {Q : Int32 → hM → Prop} (hJ : JOK (kl k) (kg k)) (hC : CX k 2 cX3_most RX3 (some .int) 1 12) (hQ : isQ k (PI Q)) (hin : (kt k).name = "most") : ∀ (s0 : Int32) (M : hM), w_X3_most_10 (kg k) F p0 p1 Q s0 M → GW k 2 M 10 [some (.int p0), some (.int p1)] [.int s0] := by
  intro s0 M hw
  exact G_iret (pc := 10) hC rfl hQ dX3_most_10 hw
theorem m_X3_most {l : Launch} {g : gT} {F : Nat} {p0 : Int32} {p1 : Int32} {M : hM} {Q : Int32 → hM → Prop} (hJ : JOK l g) (hw : w_X3_most g F p0 p1 M Q) : MG l g yX3_most (ws_ yX3_most cX3_most 2 (some .int)) 1 12 [.int p0, .int p1] M (PI Q) := by
  refine MG_of hJ.2.1 (by decide) (cat_i (cat_i cat_e)) (Nat.le_of_ble_eq_true rfl) (fun k hl hg hin hQ hC => ?_)
  subst hl hg
  show GW k 2 M 0 [some (.int p0), some (.int p1)] []
  refine G_iload_n (pc := 0) (i := 0) hC dX3_most_0 rfl rfl ?_
  refine G_iload_n (pc := 1) (i := 1) hC dX3_most_1 rfl rfl ?_
  refine G_icmp_le (pc := 2) (tgt := 9) hC dX3_most_2 (by decide) (fun hc => ?_) (fun hc => ?_)
  · replace hw := hw.1 hc
    refine G_iload_n (pc := 9) (i := 1) hC dX3_most_9 rfl rfl ?_
    exact g_X3_most_10 hJ hC hQ hin  p1 M hw
  · replace hw := hw.2 hc
    refine G_iload_n (pc := 5) (i := 0) hC dX3_most_5 rfl rfl ?_
    refine G_goto (pc := 6) (tgt := 10) hC dX3_most_6 (by decide) ?_
    exact g_X3_most_10 hJ hC hQ hin  p0 M hw
theorem hd_X3_longestOf : yX3_longestOf.cls = "MergeWorkbenchModel" ∧ yX3_longestOf.cls ≠ "java/lang/invoke/MethodHandle" ∧ yX3_longestOf.cls ≠ "java/lang/invoke/VarHandle" ∧ (parseMethodDescriptor yX3_longestOf.desc).map (fun d => d.parameters.length) = some 2 := by decide +kernel
theorem hd_X3_most : yX3_most.cls = "MergeWorkbenchModel" ∧ yX3_most.cls ≠ "java/lang/invoke/MethodHandle" ∧ yX3_most.cls ≠ "java/lang/invoke/VarHandle" ∧ (parseMethodDescriptor yX3_most.desc).map (fun d => d.parameters.length) = some 2 := by decide +kernel
def w_X3_measures_110 (g : gT) (F : Nat) (a0 : Nat) (p1 : Option Nat) (p2 : Option Nat) (p3 : Int32) (p4 : Int32) (p5 : Int32) (p6 : Int32) (Q : hM → Prop) (K14 : Int32 → Int32 → hM → Prop) (v7 : Int32) (v8 : Int32) (v9 : Int32) (M : hM) : Prop :=
  gF M (some a0) 2 19 fun x1 => sI M x1 0 (((25 : Int32) * v7) + v8) v9 fun M2 => K14 v7 (v8 + (-1 : Int32)) M2
def w_X3_measures_62 (g : gT) (F : Nat) (a0 : Nat) (p1 : Option Nat) (p2 : Option Nat) (p3 : Int32) (p4 : Int32) (p5 : Int32) (p6 : Int32) (Q : hM → Prop) (K14 : Int32 → Int32 → hM → Prop) (v7 : Int32) (v8 : Int32) (s0 : Int32) (M : hM) : Prop :=
  ((p4 ≤ v7 → w_X3_measures_110 g F a0 p1 p2 p3 p4 p5 p6 Q K14 v7 v8 s0 M) ∧ (¬ (p4 ≤ v7) → ((p6 ≤ v8 → w_X3_measures_110 g F a0 p1 p2 p3 p4 p5 p6 Q K14 v7 v8 s0 M) ∧ (¬ (p6 ≤ v8) → aI M p1 0 v7 fun x1 => aI M p2 0 v8 fun x2 => ((¬ x1 = x2 → w_X3_measures_110 g F a0 p1 p2 p3 p4 p5 p6 Q K14 v7 v8 s0 M) ∧ (x1 = x2 → (isC M a0 2 ∧ w_X3_longestOf g F a0 (v7 + (1 : Int32)) (v8 + (1 : Int32)) M (fun x4 M3 => w_X3_most g F s0 ((1 : Int32) + x4) M3 (fun x6 M5 => w_X3_measures_110 g F a0 p1 p2 p3 p4 p5 p6 Q K14 v7 v8 x6 M5)))))))))
def w_X3_measures_61 (g : gT) (F : Nat) (a0 : Nat) (p1 : Option Nat) (p2 : Option Nat) (p3 : Int32) (p4 : Int32) (p5 : Int32) (p6 : Int32) (Q : hM → Prop) (K14 : Int32 → Int32 → hM → Prop) (v7 : Int32) (v8 : Int32) (M : hM) : Prop :=
  w_X3_measures_62 g F a0 p1 p2 p3 p4 p5 p6 Q K14 v7 v8 (0 : Int32) M
def w_X3_measures_14 (g : gT) (F : Nat) (a0 : Nat) (p1 : Option Nat) (p2 : Option Nat) (p3 : Int32) (p4 : Int32) (p5 : Int32) (p6 : Int32) (Q : hM → Prop) (K4 : Int32 → hM → Prop) : Nat → Int32 → Int32 → hM → Prop
  | 0, _, _, _ => False
  | n + 1, v7, v8, M => ((v8 < p5 → K4 (v7 + (-1 : Int32)) M) ∧ (¬ (v8 < p5) → ((p4 ≤ v7 → w_X3_measures_61 g F a0 p1 p2 p3 p4 p5 p6 Q (fun v7 v8 M => w_X3_measures_14 g F a0 p1 p2 p3 p4 p5 p6 Q K4 n v7 v8 M) v7 v8 M) ∧ (¬ (p4 ≤ v7) → ((p6 ≤ v8 → w_X3_measures_61 g F a0 p1 p2 p3 p4 p5 p6 Q (fun v7 v8 M => w_X3_measures_14 g F a0 p1 p2 p3 p4 p5 p6 Q K4 n v7 v8 M) v7 v8 M) ∧ (¬ (p6 ≤ v8) → (isC M a0 2 ∧ w_X3_longestOf g F a0 (v7 + (1 : Int32)) v8 M (fun x2 M1 => (isC M1 a0 2 ∧ w_X3_longestOf g F a0 v7 (v8 + (1 : Int32)) M1 (fun x4 M3 => w_X3_most g F x2 x4 M3 (fun x6 M5 => w_X3_measures_62 g F a0 p1 p2 p3 p4 p5 p6 Q (fun v7 v8 M => w_X3_measures_14 g F a0 p1 p2 p3 p4 p5 p6 Q K4 n v7 v8 M) v7 v8 x6 M5)))))))))))
def w_X3_measures_4 (g : gT) (F : Nat) (a0 : Nat) (p1 : Option Nat) (p2 : Option Nat) (p3 : Int32) (p4 : Int32) (p5 : Int32) (p6 : Int32) (Q : hM → Prop) : Nat → Int32 → hM → Prop
  | 0, _, _ => False
  | n + 1, v7, M => ((v7 < p3 → Q M) ∧ (¬ (v7 < p3) → w_X3_measures_14 g F a0 p1 p2 p3 p4 p5 p6 Q (fun v7 M => w_X3_measures_4 g F a0 p1 p2 p3 p4 p5 p6 Q n v7 M) F v7 p6 M))
def w_X3_measures (g : gT) (F : Nat) (a0 : Nat) (p1 : Option Nat) (p2 : Option Nat) (p3 : Int32) (p4 : Int32) (p5 : Int32) (p6 : Int32) (M : hM) (Q : hM → Prop) : Prop :=
  w_X3_measures_4 g F a0 p1 p2 p3 p4 p5 p6 Q F p4 M
theorem g_X3_measures_110 {k : kT} {F : Nat} {a0 : Nat} {p1 : Option Nat} {p2 : Option Nat} {p3 : Int32} {p4 : Int32} {p5 : Int32} {p6 : Int32} {Q : hM → Prop} {K14 : Int32 → Int32 → hM → Prop} (hJ : JOK (kl k) (kg k)) (hC : CX k 10 cX3_measures RX3 none 2 34) (hQ : isQ k (PU Q)) (hin : (kt k).name = "measures") (hK14 : ∀ (v7 : Int32) (v8 : Int32) (M : hM), K14 v7 v8 M → GW k 10 M 14 [some (va_rf (some a0)), some (va_rf p1), some (va_rf p2), some (.int p3), some (.int p4), some (.int p5), some (.int p6), some (.int v7), some (.int v8), none] []) : ∀ (v7 : Int32) (v8 : Int32) (v9 : Int32) (M : hM), w_X3_measures_110 (kg k) F a0 p1 p2 p3 p4 p5 p6 Q K14 v7 v8 v9 M → GW k 10 M 110 [some (va_rf (some a0)), some (va_rf p1), some (va_rf p2), some (.int p3), some (.int p4), some (.int p5), some (.int p6), some (.int v7), some (.int v8), some (.int v9)] [] := by
  intro v7 v8 v9 M hw
  refine G_aload_n (pc := 110) (i := 0) hC dX3_measures_110 rfl rfl ?_
  refine G_getF (pc := 111) (ci := 2) (C := RX3) (T := TX3) (N := 61) (f := 19) hC rfl in_X3 (Nat.le_of_ble_eq_true rfl) q3393 (fun _ h => h) dX3_measures_111 hw (fun x1 hw => ?_)
  refine G_bipush (pc := 114) (v := 25) hC dX3_measures_114 (by decide) ?_
  refine G_iload (pc := 116) (i := 7) hC dX3_measures_116 rfl ?_
  refine G_imul (pc := 118) hC dX3_measures_118 ?_
  refine G_iload (pc := 119) (i := 8) hC dX3_measures_119 rfl ?_
  refine G_iadd (pc := 121) hC dX3_measures_121 ?_
  refine G_iload (pc := 122) (i := 9) hC dX3_measures_122 rfl ?_
  refine G_iast (pc := 124) hC dX3_measures_124 hw (fun M2 hw => ?_)
  refine G_iinc (pc := 125) (i := 8) (v := (v8 + (-1 : Int32))) (lw := [some (va_rf (some a0)), some (va_rf p1), some (va_rf p2), some (.int p3), some (.int p4), some (.int p5), some (.int p6), some (.int v7), some (.int (v8 + (-1 : Int32))), some (.int v9)]) hC dX3_measures_125 rfl (Nat.le_of_ble_eq_true rfl) rfl rfl ?_
  refine G_goto (pc := 128) (tgt := 14) hC dX3_measures_128 (by decide) ?_
  refine G_loc (lv' := [some (va_rf (some a0)), some (va_rf p1), some (va_rf p2), some (.int p3), some (.int p4), some (.int p5), some (.int p6), some (.int v7), some (.int (v8 + (-1 : Int32))), none]) ⟨Or.inr rfl, Or.inr rfl, Or.inr rfl, Or.inr rfl, Or.inr rfl, Or.inr rfl, Or.inr rfl, Or.inr rfl, Or.inr rfl, Or.inl rfl, trivial⟩ ?_
  exact hK14 v7 (v8 + (-1 : Int32)) M2 hw
theorem g_X3_measures_62 {k : kT} {F : Nat} {a0 : Nat} {p1 : Option Nat} {p2 : Option Nat} {p3 : Int32} {p4 : Int32} {p5 : Int32} {p6 : Int32} {Q : hM → Prop} {K14 : Int32 → Int32 → hM → Prop} (hJ : JOK (kl k) (kg k)) (hC : CX k 10 cX3_measures RX3 none 2 34) (hQ : isQ k (PU Q)) (hin : (kt k).name = "measures") (hK14 : ∀ (v7 : Int32) (v8 : Int32) (M : hM), K14 v7 v8 M → GW k 10 M 14 [some (va_rf (some a0)), some (va_rf p1), some (va_rf p2), some (.int p3), some (.int p4), some (.int p5), some (.int p6), some (.int v7), some (.int v8), none] []) : ∀ (v7 : Int32) (v8 : Int32) (s0 : Int32) (M : hM), w_X3_measures_62 (kg k) F a0 p1 p2 p3 p4 p5 p6 Q K14 v7 v8 s0 M → GW k 10 M 62 [some (va_rf (some a0)), some (va_rf p1), some (va_rf p2), some (.int p3), some (.int p4), some (.int p5), some (.int p6), some (.int v7), some (.int v8), none] [.int s0] := by
  intro v7 v8 s0 M hw
  refine G_istore (pc := 62) (i := 9) (lw := [some (va_rf (some a0)), some (va_rf p1), some (va_rf p2), some (.int p3), some (.int p4), some (.int p5), some (.int p6), some (.int v7), some (.int v8), some (.int s0)]) hC dX3_measures_62 (Nat.le_of_ble_eq_true rfl) rfl ?_
  refine G_iload (pc := 64) (i := 7) hC dX3_measures_64 rfl ?_
  refine G_iload (pc := 66) (i := 4) hC dX3_measures_66 rfl ?_
  refine G_icmp_ge (pc := 68) (tgt := 110) hC dX3_measures_68 (by decide) (fun hc => ?_) (fun hc => ?_)
  · replace hw := hw.1 hc
    exact g_X3_measures_110 hJ hC hQ hin hK14  v7 v8 s0 M hw
  · replace hw := hw.2 hc
    refine G_iload (pc := 71) (i := 8) hC dX3_measures_71 rfl ?_
    refine G_iload (pc := 73) (i := 6) hC dX3_measures_73 rfl ?_
    refine G_icmp_ge (pc := 75) (tgt := 110) hC dX3_measures_75 (by decide) (fun hc => ?_) (fun hc => ?_)
    · replace hw := hw.1 hc
      exact g_X3_measures_110 hJ hC hQ hin hK14  v7 v8 s0 M hw
    · replace hw := hw.2 hc
      refine G_aload_n (pc := 78) (i := 1) hC dX3_measures_78 rfl rfl ?_
      refine G_iload (pc := 79) (i := 7) hC dX3_measures_79 rfl ?_
      refine G_iald (pc := 81) hC dX3_measures_81 hw (fun x1 hw => ?_)
      refine G_aload_n (pc := 82) (i := 2) hC dX3_measures_82 rfl rfl ?_
      refine G_iload (pc := 83) (i := 8) hC dX3_measures_83 rfl ?_
      refine G_iald (pc := 85) hC dX3_measures_85 hw (fun x2 hw => ?_)
      refine G_icmp_ne (pc := 86) (tgt := 110) hC dX3_measures_86 (by decide) (fun hc => ?_) (fun hc => ?_)
      · replace hw := hw.1 hc
        exact g_X3_measures_110 hJ hC hQ hin hK14  v7 v8 s0 M hw
      · replace hw := hw.2 hc
        refine G_iload (pc := 89) (i := 9) hC dX3_measures_89 rfl ?_
        refine G_iconst (pc := 91) (v := 1) hC dX3_measures_91 (by decide) ?_
        refine G_aload_n (pc := 92) (i := 0) hC dX3_measures_92 rfl rfl ?_
        refine G_iload (pc := 93) (i := 7) hC dX3_measures_93 rfl ?_
        refine G_iconst (pc := 95) (v := 1) hC dX3_measures_95 (by decide) ?_
        refine G_iadd (pc := 96) hC dX3_measures_96 ?_
        refine G_iload (pc := 97) (i := 8) hC dX3_measures_97 rfl ?_
        refine G_iconst (pc := 99) (v := 1) hC dX3_measures_99 (by decide) ?_
        refine G_iadd (pc := 100) hC dX3_measures_100 ?_
        obtain ⟨hb, hw⟩ := hw
        refine G_callV (pc := 101) (n := 2) (C := "MergeWorkbenchModel") (b := a0) (As := [.int (v7 + (1 : Int32)), .int (v8 + (1 : Int32))]) (rest := [.int (1 : Int32), .int s0]) hC (m_X3_longestOf hJ hw) (lw_V q3656 q3658 qs63 q108 q3659) hd_X3_longestOf (by decide) (rcv (C := RX3) (T := TX3) (N := 61) hC hb rfl) rfl rfl (st_c (cat_i (cat_i cat_e)) (Nat.le_of_ble_eq_true rfl)) dX3_measures_101 (kI fun x4 M3 hw => ?_)
        refine G_iadd (pc := 104) hC dX3_measures_104 ?_
        refine G_callS (pc := 105) (n := 2) (As := [.int s0, .int ((1 : Int32) + x4)]) (rest := []) hC (m_X3_most hJ hw) (lw_S q3660 q3661 q108 q3662) hd_X3_most.2 (by decide) rfl rfl (st_c cat_e (Nat.le_of_ble_eq_true rfl)) dX3_measures_105 (kI fun x6 M5 hw => ?_)
        refine G_istore (pc := 108) (i := 9) (lw := [some (va_rf (some a0)), some (va_rf p1), some (va_rf p2), some (.int p3), some (.int p4), some (.int p5), some (.int p6), some (.int v7), some (.int v8), some (.int x6)]) hC dX3_measures_108 (Nat.le_of_ble_eq_true rfl) rfl ?_
        exact g_X3_measures_110 hJ hC hQ hin hK14  v7 v8 x6 M5 hw
theorem g_X3_measures_61 {k : kT} {F : Nat} {a0 : Nat} {p1 : Option Nat} {p2 : Option Nat} {p3 : Int32} {p4 : Int32} {p5 : Int32} {p6 : Int32} {Q : hM → Prop} {K14 : Int32 → Int32 → hM → Prop} (hJ : JOK (kl k) (kg k)) (hC : CX k 10 cX3_measures RX3 none 2 34) (hQ : isQ k (PU Q)) (hin : (kt k).name = "measures") (hK14 : ∀ (v7 : Int32) (v8 : Int32) (M : hM), K14 v7 v8 M → GW k 10 M 14 [some (va_rf (some a0)), some (va_rf p1), some (va_rf p2), some (.int p3), some (.int p4), some (.int p5), some (.int p6), some (.int v7), some (.int v8), none] []) : ∀ (v7 : Int32) (v8 : Int32) (M : hM), w_X3_measures_61 (kg k) F a0 p1 p2 p3 p4 p5 p6 Q K14 v7 v8 M → GW k 10 M 61 [some (va_rf (some a0)), some (va_rf p1), some (va_rf p2), some (.int p3), some (.int p4), some (.int p5), some (.int p6), some (.int v7), some (.int v8), none] [] := by
  intro v7 v8 M hw
  refine G_iconst (pc := 61) (v := 0) hC dX3_measures_61 (by decide) ?_
  exact g_X3_measures_62 hJ hC hQ hin hK14  v7 v8 (0 : Int32) M hw
theorem g_X3_measures_14 {k : kT} {F : Nat} {a0 : Nat} {p1 : Option Nat} {p2 : Option Nat} {p3 : Int32} {p4 : Int32} {p5 : Int32} {p6 : Int32} {Q : hM → Prop} {K4 : Int32 → hM → Prop} (hJ : JOK (kl k) (kg k)) (hC : CX k 10 cX3_measures RX3 none 2 34) (hQ : isQ k (PU Q)) (hin : (kt k).name = "measures") (hK4 : ∀ (v7 : Int32) (M : hM), K4 v7 M → GW k 10 M 4 [some (va_rf (some a0)), some (va_rf p1), some (va_rf p2), some (.int p3), some (.int p4), some (.int p5), some (.int p6), some (.int v7), none, none] []) : ∀ (n : Nat) (v7 : Int32) (v8 : Int32) (M : hM), w_X3_measures_14 (kg k) F a0 p1 p2 p3 p4 p5 p6 Q K4 n v7 v8 M → GW k 10 M 14 [some (va_rf (some a0)), some (va_rf p1), some (va_rf p2), some (.int p3), some (.int p4), some (.int p5), some (.int p6), some (.int v7), some (.int v8), none] [] := by
  intro n
  induction n with
  | zero =>
    intro v7 v8 M hw
    exact hw.elim
  | succ n ih =>
    intro v7 v8 M hw
    refine G_iload (pc := 14) (i := 8) hC dX3_measures_14 rfl ?_
    refine G_iload (pc := 16) (i := 5) hC dX3_measures_16 rfl ?_
    refine G_icmp_lt (pc := 18) (tgt := 131) hC dX3_measures_18 (by decide) (fun hc => ?_) (fun hc => ?_)
    · replace hw := hw.1 hc
      refine G_iinc (pc := 131) (i := 7) (v := (v7 + (-1 : Int32))) (lw := [some (va_rf (some a0)), some (va_rf p1), some (va_rf p2), some (.int p3), some (.int p4), some (.int p5), some (.int p6), some (.int (v7 + (-1 : Int32))), some (.int v8), none]) hC dX3_measures_131 rfl (Nat.le_of_ble_eq_true rfl) rfl rfl ?_
      refine G_goto (pc := 134) (tgt := 4) hC dX3_measures_134 (by decide) ?_
      refine G_loc (lv' := [some (va_rf (some a0)), some (va_rf p1), some (va_rf p2), some (.int p3), some (.int p4), some (.int p5), some (.int p6), some (.int (v7 + (-1 : Int32))), none, none]) ⟨Or.inr rfl, Or.inr rfl, Or.inr rfl, Or.inr rfl, Or.inr rfl, Or.inr rfl, Or.inr rfl, Or.inr rfl, Or.inl rfl, Or.inr rfl, trivial⟩ ?_
      exact hK4 (v7 + (-1 : Int32)) M hw
    · replace hw := hw.2 hc
      refine G_iload (pc := 21) (i := 7) hC dX3_measures_21 rfl ?_
      refine G_iload (pc := 23) (i := 4) hC dX3_measures_23 rfl ?_
      refine G_icmp_ge (pc := 25) (tgt := 61) hC dX3_measures_25 (by decide) (fun hc => ?_) (fun hc => ?_)
      · replace hw := hw.1 hc
        exact g_X3_measures_61 hJ hC hQ hin ih  v7 v8 M hw
      · replace hw := hw.2 hc
        refine G_iload (pc := 28) (i := 8) hC dX3_measures_28 rfl ?_
        refine G_iload (pc := 30) (i := 6) hC dX3_measures_30 rfl ?_
        refine G_icmp_ge (pc := 32) (tgt := 61) hC dX3_measures_32 (by decide) (fun hc => ?_) (fun hc => ?_)
        · replace hw := hw.1 hc
          exact g_X3_measures_61 hJ hC hQ hin ih  v7 v8 M hw
        · replace hw := hw.2 hc
          refine G_aload_n (pc := 35) (i := 0) hC dX3_measures_35 rfl rfl ?_
          refine G_iload (pc := 36) (i := 7) hC dX3_measures_36 rfl ?_
          refine G_iconst (pc := 38) (v := 1) hC dX3_measures_38 (by decide) ?_
          refine G_iadd (pc := 39) hC dX3_measures_39 ?_
          refine G_iload (pc := 40) (i := 8) hC dX3_measures_40 rfl ?_
          obtain ⟨hb, hw⟩ := hw
          refine G_callV (pc := 42) (n := 2) (C := "MergeWorkbenchModel") (b := a0) (As := [.int (v7 + (1 : Int32)), .int v8]) (rest := []) hC (m_X3_longestOf hJ hw) (lw_V q3656 q3658 qs63 q108 q3659) hd_X3_longestOf (by decide) (rcv (C := RX3) (T := TX3) (N := 61) hC hb rfl) rfl rfl (st_c cat_e (Nat.le_of_ble_eq_true rfl)) dX3_measures_42 (kI fun x2 M1 hw => ?_)
          refine G_aload_n (pc := 45) (i := 0) hC dX3_measures_45 rfl rfl ?_
          refine G_iload (pc := 46) (i := 7) hC dX3_measures_46 rfl ?_
          refine G_iload (pc := 48) (i := 8) hC dX3_measures_48 rfl ?_
          refine G_iconst (pc := 50) (v := 1) hC dX3_measures_50 (by decide) ?_
          refine G_iadd (pc := 51) hC dX3_measures_51 ?_
          obtain ⟨hb, hw⟩ := hw
          refine G_callV (pc := 52) (n := 2) (C := "MergeWorkbenchModel") (b := a0) (As := [.int v7, .int (v8 + (1 : Int32))]) (rest := [.int x2]) hC (m_X3_longestOf hJ hw) (lw_V q3656 q3658 qs63 q108 q3659) hd_X3_longestOf (by decide) (rcv (C := RX3) (T := TX3) (N := 61) hC hb rfl) rfl rfl (st_c (cat_i cat_e) (Nat.le_of_ble_eq_true rfl)) dX3_measures_52 (kI fun x4 M3 hw => ?_)
          refine G_callS (pc := 55) (n := 2) (As := [.int x2, .int x4]) (rest := []) hC (m_X3_most hJ hw) (lw_S q3660 q3661 q108 q3662) hd_X3_most.2 (by decide) rfl rfl (st_c cat_e (Nat.le_of_ble_eq_true rfl)) dX3_measures_55 (kI fun x6 M5 hw => ?_)
          refine G_goto (pc := 58) (tgt := 62) hC dX3_measures_58 (by decide) ?_
          exact g_X3_measures_62 hJ hC hQ hin ih  v7 v8 x6 M5 hw
theorem g_X3_measures_4 {k : kT} {F : Nat} {a0 : Nat} {p1 : Option Nat} {p2 : Option Nat} {p3 : Int32} {p4 : Int32} {p5 : Int32} {p6 : Int32} {Q : hM → Prop} (hJ : JOK (kl k) (kg k)) (hC : CX k 10 cX3_measures RX3 none 2 34) (hQ : isQ k (PU Q)) (hin : (kt k).name = "measures") : ∀ (n : Nat) (v7 : Int32) (M : hM), w_X3_measures_4 (kg k) F a0 p1 p2 p3 p4 p5 p6 Q n v7 M → GW k 10 M 4 [some (va_rf (some a0)), some (va_rf p1), some (va_rf p2), some (.int p3), some (.int p4), some (.int p5), some (.int p6), some (.int v7), none, none] [] := by
  intro n
  induction n with
  | zero =>
    intro v7 M hw
    exact hw.elim
  | succ n ih =>
    intro v7 M hw
    refine G_iload (pc := 4) (i := 7) hC dX3_measures_4 rfl ?_
    refine G_iload_n (pc := 6) (i := 3) hC dX3_measures_6 rfl rfl ?_
    refine G_icmp_lt (pc := 7) (tgt := 137) hC dX3_measures_7 (by decide) (fun hc => ?_) (fun hc => ?_)
    · replace hw := hw.1 hc
      exact G_ret (pc := 137) hC hQ dX3_measures_137 hw
    · replace hw := hw.2 hc
      refine G_iload (pc := 10) (i := 6) hC dX3_measures_10 rfl ?_
      refine G_istore (pc := 12) (i := 8) (lw := [some (va_rf (some a0)), some (va_rf p1), some (va_rf p2), some (.int p3), some (.int p4), some (.int p5), some (.int p6), some (.int v7), some (.int p6), none]) hC dX3_measures_12 (Nat.le_of_ble_eq_true rfl) rfl ?_
      exact g_X3_measures_14 hJ hC hQ hin ih _ v7 p6 M hw
theorem m_X3_measures {l : Launch} {g : gT} {F : Nat} {a0 : Nat} {p1 : Option Nat} {p2 : Option Nat} {p3 : Int32} {p4 : Int32} {p5 : Int32} {p6 : Int32} {M : hM} {Q : hM → Prop} (hJ : JOK l g) (hw : w_X3_measures g F a0 p1 p2 p3 p4 p5 p6 M Q) : MG l g yX3_measures (ws_ yX3_measures cX3_measures 10 none) 2 34 [va_rf (some a0), va_rf p1, va_rf p2, .int p3, .int p4, .int p5, .int p6] M (PU Q) := by
  refine MG_of hJ.2.1 (by decide) (cat_r (cat_r (cat_r (cat_i (cat_i (cat_i (cat_i cat_e))))))) (Nat.le_of_ble_eq_true rfl) (fun k hl hg hin hQ hC => ?_)
  subst hl hg
  show GW k 10 M 0 [some (va_rf (some a0)), some (va_rf p1), some (va_rf p2), some (.int p3), some (.int p4), some (.int p5), some (.int p6), none, none, none] []
  refine G_iload (pc := 0) (i := 4) hC dX3_measures_0 rfl ?_
  refine G_istore (pc := 2) (i := 7) (lw := [some (va_rf (some a0)), some (va_rf p1), some (va_rf p2), some (.int p3), some (.int p4), some (.int p5), some (.int p6), some (.int p4), none, none]) hC dX3_measures_2 (Nat.le_of_ble_eq_true rfl) rfl ?_
  exact g_X3_measures_4 hJ hC hQ hin _ p4 M hw
theorem hd_X3_measures : yX3_measures.cls = "MergeWorkbenchModel" ∧ yX3_measures.cls ≠ "java/lang/invoke/MethodHandle" ∧ yX3_measures.cls ≠ "java/lang/invoke/VarHandle" ∧ (parseMethodDescriptor yX3_measures.desc).map (fun d => d.parameters.length) = some 6 := by decide +kernel
theorem hd_X3_takes : yX3_takes.cls = "MergeWorkbenchModel" ∧ yX3_takes.cls ≠ "java/lang/invoke/MethodHandle" ∧ yX3_takes.cls ≠ "java/lang/invoke/VarHandle" ∧ (parseMethodDescriptor yX3_takes.desc).map (fun d => d.parameters.length) = some 2 := by decide +kernel
def w_X3_distance_14 (g : gT) (F : Nat) (a0 : Nat) (p1 : Int32) (p2 : Int32) (Q : Int32 → hM → Prop) (M : hM) : Prop :=
  (isC M a0 2 ∧ w_X3_fails g F a0 (1 : Int32) M (fun x2 M1 => Q x2 M1))
def w_X3_distance (g : gT) (F : Nat) (a0 : Nat) (p1 : Int32) (p2 : Int32) (M : hM) (Q : Int32 → hM → Prop) : Prop :=
  w_X3_isRegister g F p1 M (fun x2 M1 => ((x2 = 0 → w_X3_distance_14 g F a0 p1 p2 Q M1) ∧ (¬ (x2 = 0) → w_X3_isRegister g F p2 M1 (fun x4 M3 => ((¬ x4 = 0 → gF M3 (some a0) 2 23 fun x5 => (isC M3 a0 2 ∧ w_X3_takes g F a0 p1 x5 M3 (fun x7 M6 => gF M6 (some a0) 2 24 fun x8 => (isC M6 a0 2 ∧ w_X3_takes g F a0 p2 x8 M6 (fun x10 M9 => gF M9 (some a0) 2 23 fun x11 => gF M9 (some a0) 2 24 fun x12 => (isC M9 a0 2 ∧ w_X3_measures g F a0 x11 x12 (0 : Int32) x7 (0 : Int32) x10 M9 (fun M13 => (isC M13 a0 2 ∧ w_X3_longestOf g F a0 (0 : Int32) (0 : Int32) M13 (fun x15 M14 => (isC M14 a0 2 ∧ w_X3_done g F a0 ((x7 + x10) - ((2 : Int32) * x15)) M14 (fun x17 M16 => Q x17 M16))))))))))) ∧ (x4 = 0 → w_X3_distance_14 g F a0 p1 p2 Q M3))))))
theorem g_X3_distance_14 {k : kT} {F : Nat} {a0 : Nat} {p1 : Int32} {p2 : Int32} {Q : Int32 → hM → Prop} (hJ : JOK (kl k) (kg k)) (hC : CX k 5 cX3_distance RX3 (some .int) 3 63) (hQ : isQ k (PI Q)) (hin : (kt k).name = "distance") : ∀  (M : hM), w_X3_distance_14 (kg k) F a0 p1 p2 Q  M → GW k 5 M 14 [some (va_rf (some a0)), some (.int p1), some (.int p2), none, none] [] := by
  intro  M hw
  refine G_aload_n (pc := 14) (i := 0) hC dX3_distance_14 rfl rfl ?_
  refine G_iconst (pc := 15) (v := 1) hC dX3_distance_15 (by decide) ?_
  obtain ⟨hb, hw⟩ := hw
  refine G_callV (pc := 16) (n := 1) (C := "MergeWorkbenchModel") (b := a0) (As := [.int (1 : Int32)]) (rest := []) hC (m_X3_fails hJ hw) (lw_V q3573 q3575 qs52 q108 q3576) hd_X3_fails (by decide) (rcv (C := RX3) (T := TX3) (N := 61) hC hb rfl) rfl rfl (st_c cat_e (Nat.le_of_ble_eq_true rfl)) dX3_distance_16 (kI fun x2 M1 hw => ?_)
  exact G_iret (pc := 19) hC rfl hQ dX3_distance_19 hw
theorem m_X3_distance {l : Launch} {g : gT} {F : Nat} {a0 : Nat} {p1 : Int32} {p2 : Int32} {M : hM} {Q : Int32 → hM → Prop} (hJ : JOK l g) (hw : w_X3_distance g F a0 p1 p2 M Q) : MG l g yX3_distance (ws_ yX3_distance cX3_distance 5 (some .int)) 3 63 [va_rf (some a0), .int p1, .int p2] M (PI Q) := by
  refine MG_of hJ.2.1 (by decide) (cat_r (cat_i (cat_i cat_e))) (Nat.le_of_ble_eq_true rfl) (fun k hl hg hin hQ hC => ?_)
  subst hl hg
  show GW k 5 M 0 [some (va_rf (some a0)), some (.int p1), some (.int p2), none, none] []
  refine G_iload_n (pc := 0) (i := 1) hC dX3_distance_0 rfl rfl ?_
  refine G_callS (pc := 1) (n := 1) (As := [.int p1]) (rest := []) hC (m_X3_isRegister hJ hw) (lw_S q3567 q3568 q108 q3569) hd_X3_isRegister.2 (by decide) rfl rfl (st_c cat_e (Nat.le_of_ble_eq_true rfl)) dX3_distance_1 (kI fun x2 M1 hw => ?_)
  refine G_if_eq (pc := 4) (tgt := 14) hC dX3_distance_4 (by decide) (fun hc => ?_) (fun hc => ?_)
  · replace hw := hw.1 hc
    exact g_X3_distance_14 hJ hC hQ hin   M1 hw
  · replace hw := hw.2 hc
    refine G_iload_n (pc := 7) (i := 2) hC dX3_distance_7 rfl rfl ?_
    refine G_callS (pc := 8) (n := 1) (As := [.int p2]) (rest := []) hC (m_X3_isRegister hJ hw) (lw_S q3567 q3568 q108 q3569) hd_X3_isRegister.2 (by decide) rfl rfl (st_c cat_e (Nat.le_of_ble_eq_true rfl)) dX3_distance_8 (kI fun x4 M3 hw => ?_)
    refine G_if_ne (pc := 11) (tgt := 20) hC dX3_distance_11 (by decide) (fun hc => ?_) (fun hc => ?_)
    · replace hw := hw.1 hc
      refine G_aload_n (pc := 20) (i := 0) hC dX3_distance_20 rfl rfl ?_
      refine G_iload_n (pc := 21) (i := 1) hC dX3_distance_21 rfl rfl ?_
      refine G_aload_n (pc := 22) (i := 0) hC dX3_distance_22 rfl rfl ?_
      refine G_getF (pc := 23) (ci := 2) (C := RX3) (T := TX3) (N := 61) (f := 23) hC rfl in_X3 (Nat.le_of_ble_eq_true rfl) q3397 (fun _ h => h) dX3_distance_23 hw (fun x5 hw => ?_)
      obtain ⟨hb, hw⟩ := hw
      refine G_callV (pc := 26) (n := 2) (C := "MergeWorkbenchModel") (b := a0) (As := [.int p1, va_rf x5]) (rest := []) hC (m_X3_takes hJ hw) (lw_V q3648 q3650 qs61 q108 q3651) hd_X3_takes (by decide) (rcv (C := RX3) (T := TX3) (N := 61) hC hb rfl) rfl rfl (st_c cat_e (Nat.le_of_ble_eq_true rfl)) dX3_distance_26 (kI fun x7 M6 hw => ?_)
      refine G_istore_n (pc := 29) (i := 3) (lw := [some (va_rf (some a0)), some (.int p1), some (.int p2), some (.int x7), none]) hC dX3_distance_29 rfl (Nat.le_of_ble_eq_true rfl) rfl ?_
      refine G_aload_n (pc := 30) (i := 0) hC dX3_distance_30 rfl rfl ?_
      refine G_iload_n (pc := 31) (i := 2) hC dX3_distance_31 rfl rfl ?_
      refine G_aload_n (pc := 32) (i := 0) hC dX3_distance_32 rfl rfl ?_
      refine G_getF (pc := 33) (ci := 2) (C := RX3) (T := TX3) (N := 61) (f := 24) hC rfl in_X3 (Nat.le_of_ble_eq_true rfl) q3398 (fun _ h => h) dX3_distance_33 hw (fun x8 hw => ?_)
      obtain ⟨hb, hw⟩ := hw
      refine G_callV (pc := 36) (n := 2) (C := "MergeWorkbenchModel") (b := a0) (As := [.int p2, va_rf x8]) (rest := []) hC (m_X3_takes hJ hw) (lw_V q3648 q3650 qs61 q108 q3651) hd_X3_takes (by decide) (rcv (C := RX3) (T := TX3) (N := 61) hC hb rfl) rfl rfl (st_c cat_e (Nat.le_of_ble_eq_true rfl)) dX3_distance_36 (kI fun x10 M9 hw => ?_)
      refine G_istore (pc := 39) (i := 4) (lw := [some (va_rf (some a0)), some (.int p1), some (.int p2), some (.int x7), some (.int x10)]) hC dX3_distance_39 (Nat.le_of_ble_eq_true rfl) rfl ?_
      refine G_aload_n (pc := 41) (i := 0) hC dX3_distance_41 rfl rfl ?_
      refine G_aload_n (pc := 42) (i := 0) hC dX3_distance_42 rfl rfl ?_
      refine G_getF (pc := 43) (ci := 2) (C := RX3) (T := TX3) (N := 61) (f := 23) hC rfl in_X3 (Nat.le_of_ble_eq_true rfl) q3397 (fun _ h => h) dX3_distance_43 hw (fun x11 hw => ?_)
      refine G_aload_n (pc := 46) (i := 0) hC dX3_distance_46 rfl rfl ?_
      refine G_getF (pc := 47) (ci := 2) (C := RX3) (T := TX3) (N := 61) (f := 24) hC rfl in_X3 (Nat.le_of_ble_eq_true rfl) q3398 (fun _ h => h) dX3_distance_47 hw (fun x12 hw => ?_)
      refine G_iconst (pc := 50) (v := 0) hC dX3_distance_50 (by decide) ?_
      refine G_iload_n (pc := 51) (i := 3) hC dX3_distance_51 rfl rfl ?_
      refine G_iconst (pc := 52) (v := 0) hC dX3_distance_52 (by decide) ?_
      refine G_iload (pc := 53) (i := 4) hC dX3_distance_53 rfl ?_
      obtain ⟨hb, hw⟩ := hw
      refine G_callV (pc := 55) (n := 6) (C := "MergeWorkbenchModel") (b := a0) (As := [va_rf x11, va_rf x12, .int (0 : Int32), .int x7, .int (0 : Int32), .int x10]) (rest := []) hC (m_X3_measures hJ hw) (lw_V q3652 q3654 qs62 q108 q3655) hd_X3_measures (by decide) (rcv (C := RX3) (T := TX3) (N := 61) hC hb rfl) rfl rfl (st_c cat_e (Nat.le_of_ble_eq_true rfl)) dX3_distance_55 (kU fun M13 hw => ?_)
      refine G_aload_n (pc := 58) (i := 0) hC dX3_distance_58 rfl rfl ?_
      refine G_iload_n (pc := 59) (i := 3) hC dX3_distance_59 rfl rfl ?_
      refine G_iload (pc := 60) (i := 4) hC dX3_distance_60 rfl ?_
      refine G_iadd (pc := 62) hC dX3_distance_62 ?_
      refine G_iconst (pc := 63) (v := 2) hC dX3_distance_63 (by decide) ?_
      refine G_aload_n (pc := 64) (i := 0) hC dX3_distance_64 rfl rfl ?_
      refine G_iconst (pc := 65) (v := 0) hC dX3_distance_65 (by decide) ?_
      refine G_iconst (pc := 66) (v := 0) hC dX3_distance_66 (by decide) ?_
      obtain ⟨hb, hw⟩ := hw
      refine G_callV (pc := 67) (n := 2) (C := "MergeWorkbenchModel") (b := a0) (As := [.int (0 : Int32), .int (0 : Int32)]) (rest := [.int (2 : Int32), .int (x7 + x10), va_rf (some a0)]) hC (m_X3_longestOf hJ hw) (lw_V q3656 q3658 qs63 q108 q3659) hd_X3_longestOf (by decide) (rcv (C := RX3) (T := TX3) (N := 61) hC hb rfl) rfl rfl (st_c (cat_i (cat_i (cat_r cat_e))) (Nat.le_of_ble_eq_true rfl)) dX3_distance_67 (kI fun x15 M14 hw => ?_)
      refine G_imul (pc := 70) hC dX3_distance_70 ?_
      refine G_isub (pc := 71) hC dX3_distance_71 ?_
      obtain ⟨hb, hw⟩ := hw
      refine G_callV (pc := 72) (n := 1) (C := "MergeWorkbenchModel") (b := a0) (As := [.int ((x7 + x10) - ((2 : Int32) * x15))]) (rest := []) hC (m_X3_done hJ hw) (lw_V q3581 q3583 qs54 q108 q3584) hd_X3_done (by decide) (rcv (C := RX3) (T := TX3) (N := 61) hC hb rfl) rfl rfl (st_c cat_e (Nat.le_of_ble_eq_true rfl)) dX3_distance_72 (kI fun x17 M16 hw => ?_)
      exact G_iret (pc := 75) hC rfl hQ dX3_distance_75 hw
    · replace hw := hw.2 hc
      exact g_X3_distance_14 hJ hC hQ hin   M3 hw
def w_X3_setMode (g : gT) (F : Nat) (a0 : Nat) (p1 : Int32) (M : hM) (Q : Int32 → hM → Prop) : Prop :=
  w_X3_in g F p1 (0 : Int32) (1 : Int32) M (fun x2 M1 => ((¬ x2 = 0 → gI M1 (some a0) 2 3 fun x3 => pV M1 (some a0) 2 3 (.int p1) fun M4 => (isC M4 a0 2 ∧ w_X3_done g F a0 x3 M4 (fun x6 M5 => Q x6 M5))) ∧ (x2 = 0 → (isC M1 a0 2 ∧ w_X3_fails g F a0 (1 : Int32) M1 (fun x8 M7 => Q x8 M7)))))
theorem m_X3_setMode {l : Launch} {g : gT} {F : Nat} {a0 : Nat} {p1 : Int32} {M : hM} {Q : Int32 → hM → Prop} (hJ : JOK l g) (hw : w_X3_setMode g F a0 p1 M Q) : MG l g yX3_setMode (ws_ yX3_setMode cX3_setMode 3 (some .int)) 2 34 [va_rf (some a0), .int p1] M (PI Q) := by
  refine MG_of hJ.2.1 (by decide) (cat_r (cat_i cat_e)) (Nat.le_of_ble_eq_true rfl) (fun k hl hg hin hQ hC => ?_)
  subst hl hg
  show GW k 3 M 0 [some (va_rf (some a0)), some (.int p1), none] []
  refine G_iload_n (pc := 0) (i := 1) hC dX3_setMode_0 rfl rfl ?_
  refine G_iconst (pc := 1) (v := 0) hC dX3_setMode_1 (by decide) ?_
  refine G_iconst (pc := 2) (v := 1) hC dX3_setMode_2 (by decide) ?_
  refine G_callS (pc := 3) (n := 3) (As := [.int p1, .int (0 : Int32), .int (1 : Int32)]) (rest := []) hC (m_X3_in hJ hw) (lw_S q3570 q3571 q108 q3572) hd_X3_in.2 (by decide) rfl rfl (st_c cat_e (Nat.le_of_ble_eq_true rfl)) dX3_setMode_3 (kI fun x2 M1 hw => ?_)
  refine G_if_ne (pc := 6) (tgt := 15) hC dX3_setMode_6 (by decide) (fun hc => ?_) (fun hc => ?_)
  · replace hw := hw.1 hc
    refine G_aload_n (pc := 15) (i := 0) hC dX3_setMode_15 rfl rfl ?_
    refine G_getI (pc := 16) (ci := 2) (C := RX3) (T := TX3) (N := 61) (f := 3) hC rfl in_X3 (Nat.le_of_ble_eq_true rfl) q3377 (fun _ h => h) dX3_setMode_16 hw (fun x3 hw => ?_)
    refine G_istore_n (pc := 19) (i := 2) (lw := [some (va_rf (some a0)), some (.int p1), some (.int x3)]) hC dX3_setMode_19 rfl (Nat.le_of_ble_eq_true rfl) rfl ?_
    refine G_aload_n (pc := 20) (i := 0) hC dX3_setMode_20 rfl rfl ?_
    refine G_iload_n (pc := 21) (i := 1) hC dX3_setMode_21 rfl rfl ?_
    refine G_put (pc := 22) (ci := 2) (C := RX3) (T := TX3) (N := 61) (f := 3) tyX3 hC rfl in_X3 tyX3_ok nmX3 (Nat.le_of_ble_eq_true rfl) q3377 (fun _ h => h) rfl rfl rfl dX3_setMode_22 hw (fun M4 hw => ?_)
    refine G_aload_n (pc := 25) (i := 0) hC dX3_setMode_25 rfl rfl ?_
    refine G_iload_n (pc := 26) (i := 2) hC dX3_setMode_26 rfl rfl ?_
    obtain ⟨hb, hw⟩ := hw
    refine G_callV (pc := 27) (n := 1) (C := "MergeWorkbenchModel") (b := a0) (As := [.int x3]) (rest := []) hC (m_X3_done hJ hw) (lw_V q3581 q3583 qs54 q108 q3584) hd_X3_done (by decide) (rcv (C := RX3) (T := TX3) (N := 61) hC hb rfl) rfl rfl (st_c cat_e (Nat.le_of_ble_eq_true rfl)) dX3_setMode_27 (kI fun x6 M5 hw => ?_)
    exact G_iret (pc := 30) hC rfl hQ dX3_setMode_30 hw
  · replace hw := hw.2 hc
    refine G_aload_n (pc := 9) (i := 0) hC dX3_setMode_9 rfl rfl ?_
    refine G_iconst (pc := 10) (v := 1) hC dX3_setMode_10 (by decide) ?_
    obtain ⟨hb, hw⟩ := hw
    refine G_callV (pc := 11) (n := 1) (C := "MergeWorkbenchModel") (b := a0) (As := [.int (1 : Int32)]) (rest := []) hC (m_X3_fails hJ hw) (lw_V q3573 q3575 qs52 q108 q3576) hd_X3_fails (by decide) (rcv (C := RX3) (T := TX3) (N := 61) hC hb rfl) rfl rfl (st_c cat_e (Nat.le_of_ble_eq_true rfl)) dX3_setMode_11 (kI fun x8 M7 hw => ?_)
    exact G_iret (pc := 14) hC rfl hQ dX3_setMode_14 hw
def w_X3_occurs_25 (g : gT) (F : Nat) (p0 : Option Nat) (p1 : Int32) (p2 : Int32) (Q : Int32 → hM → Prop) (K5 : Int32 → Int32 → hM → Prop) (v4 : Int32) (s0 : Int32) (s1 : Int32) (M : hM) : Prop :=
  K5 (s0 + s1) (v4 + (1 : Int32)) M
def w_X3_occurs_5 (g : gT) (F : Nat) (p0 : Option Nat) (p1 : Int32) (p2 : Int32) (Q : Int32 → hM → Prop) : Nat → Int32 → Int32 → hM → Prop
  | 0, _, _, _ => False
  | n + 1, v3, v4, M => ((p1 ≤ v4 → Q v3 M) ∧ (¬ (p1 ≤ v4) → aI M p0 0 v4 fun x1 => ((¬ x1 = p2 → w_X3_occurs_25 g F p0 p1 p2 Q (fun v3 v4 M => w_X3_occurs_5 g F p0 p1 p2 Q n v3 v4 M) v4 v3 (0 : Int32) M) ∧ (x1 = p2 → w_X3_occurs_25 g F p0 p1 p2 Q (fun v3 v4 M => w_X3_occurs_5 g F p0 p1 p2 Q n v3 v4 M) v4 v3 (1 : Int32) M))))
def w_X3_occurs (g : gT) (F : Nat) (p0 : Option Nat) (p1 : Int32) (p2 : Int32) (M : hM) (Q : Int32 → hM → Prop) : Prop :=
  w_X3_occurs_5 g F p0 p1 p2 Q F (0 : Int32) (0 : Int32) M
theorem g_X3_occurs_25 {k : kT} {F : Nat} {p0 : Option Nat} {p1 : Int32} {p2 : Int32} {Q : Int32 → hM → Prop} {K5 : Int32 → Int32 → hM → Prop} (hJ : JOK (kl k) (kg k)) (hC : CX k 5 cX3_occurs RX3 (some .int) 1 12) (hQ : isQ k (PI Q)) (hin : (kt k).name = "occurs") (hK5 : ∀ (v3 : Int32) (v4 : Int32) (M : hM), K5 v3 v4 M → GW k 5 M 5 [some (va_rf p0), some (.int p1), some (.int p2), some (.int v3), some (.int v4)] []) : ∀ (v4 : Int32) (s0 : Int32) (s1 : Int32) (M : hM), w_X3_occurs_25 (kg k) F p0 p1 p2 Q K5 v4 s0 s1 M → GW k 5 M 25 [some (va_rf p0), some (.int p1), some (.int p2), none, some (.int v4)] [.int s1, .int s0] := by
  intro v4 s0 s1 M hw
  refine G_iadd (pc := 25) hC dX3_occurs_25 ?_
  refine G_istore_n (pc := 26) (i := 3) (lw := [some (va_rf p0), some (.int p1), some (.int p2), some (.int (s0 + s1)), some (.int v4)]) hC dX3_occurs_26 rfl (Nat.le_of_ble_eq_true rfl) rfl ?_
  refine G_iinc (pc := 27) (i := 4) (v := (v4 + (1 : Int32))) (lw := [some (va_rf p0), some (.int p1), some (.int p2), some (.int (s0 + s1)), some (.int (v4 + (1 : Int32)))]) hC dX3_occurs_27 rfl (Nat.le_of_ble_eq_true rfl) rfl rfl ?_
  refine G_goto (pc := 30) (tgt := 5) hC dX3_occurs_30 (by decide) ?_
  exact hK5 (s0 + s1) (v4 + (1 : Int32)) M hw
theorem g_X3_occurs_5 {k : kT} {F : Nat} {p0 : Option Nat} {p1 : Int32} {p2 : Int32} {Q : Int32 → hM → Prop} (hJ : JOK (kl k) (kg k)) (hC : CX k 5 cX3_occurs RX3 (some .int) 1 12) (hQ : isQ k (PI Q)) (hin : (kt k).name = "occurs") : ∀ (n : Nat) (v3 : Int32) (v4 : Int32) (M : hM), w_X3_occurs_5 (kg k) F p0 p1 p2 Q n v3 v4 M → GW k 5 M 5 [some (va_rf p0), some (.int p1), some (.int p2), some (.int v3), some (.int v4)] [] := by
  intro n
  induction n with
  | zero =>
    intro v3 v4 M hw
    exact hw.elim
  | succ n ih =>
    intro v3 v4 M hw
    refine G_iload (pc := 5) (i := 4) hC dX3_occurs_5 rfl ?_
    refine G_iload_n (pc := 7) (i := 1) hC dX3_occurs_7 rfl rfl ?_
    refine G_icmp_ge (pc := 8) (tgt := 33) hC dX3_occurs_8 (by decide) (fun hc => ?_) (fun hc => ?_)
    · replace hw := hw.1 hc
      refine G_iload_n (pc := 33) (i := 3) hC dX3_occurs_33 rfl rfl ?_
      exact G_iret (pc := 34) hC rfl hQ dX3_occurs_34 hw
    · replace hw := hw.2 hc
      refine G_iload_n (pc := 11) (i := 3) hC dX3_occurs_11 rfl rfl ?_
      refine G_aload_n (pc := 12) (i := 0) hC dX3_occurs_12 rfl rfl ?_
      refine G_iload (pc := 13) (i := 4) hC dX3_occurs_13 rfl ?_
      refine G_iald (pc := 15) hC dX3_occurs_15 hw (fun x1 hw => ?_)
      refine G_iload_n (pc := 16) (i := 2) hC dX3_occurs_16 rfl rfl ?_
      refine G_icmp_ne (pc := 17) (tgt := 24) hC dX3_occurs_17 (by decide) (fun hc => ?_) (fun hc => ?_)
      · replace hw := hw.1 hc
        refine G_iconst (pc := 24) (v := 0) hC dX3_occurs_24 (by decide) ?_
        refine G_loc (lv' := [some (va_rf p0), some (.int p1), some (.int p2), none, some (.int v4)]) ⟨Or.inr rfl, Or.inr rfl, Or.inr rfl, Or.inl rfl, Or.inr rfl, trivial⟩ ?_
        exact g_X3_occurs_25 hJ hC hQ hin ih  v4 v3 (0 : Int32) M hw
      · replace hw := hw.2 hc
        refine G_iconst (pc := 20) (v := 1) hC dX3_occurs_20 (by decide) ?_
        refine G_goto (pc := 21) (tgt := 25) hC dX3_occurs_21 (by decide) ?_
        refine G_loc (lv' := [some (va_rf p0), some (.int p1), some (.int p2), none, some (.int v4)]) ⟨Or.inr rfl, Or.inr rfl, Or.inr rfl, Or.inl rfl, Or.inr rfl, trivial⟩ ?_
        exact g_X3_occurs_25 hJ hC hQ hin ih  v4 v3 (1 : Int32) M hw
theorem m_X3_occurs {l : Launch} {g : gT} {F : Nat} {p0 : Option Nat} {p1 : Int32} {p2 : Int32} {M : hM} {Q : Int32 → hM → Prop} (hJ : JOK l g) (hw : w_X3_occurs g F p0 p1 p2 M Q) : MG l g yX3_occurs (ws_ yX3_occurs cX3_occurs 5 (some .int)) 1 12 [va_rf p0, .int p1, .int p2] M (PI Q) := by
  refine MG_of hJ.2.1 (by decide) (cat_r (cat_i (cat_i cat_e))) (Nat.le_of_ble_eq_true rfl) (fun k hl hg hin hQ hC => ?_)
  subst hl hg
  show GW k 5 M 0 [some (va_rf p0), some (.int p1), some (.int p2), none, none] []
  refine G_iconst (pc := 0) (v := 0) hC dX3_occurs_0 (by decide) ?_
  refine G_istore_n (pc := 1) (i := 3) (lw := [some (va_rf p0), some (.int p1), some (.int p2), some (.int (0 : Int32)), none]) hC dX3_occurs_1 rfl (Nat.le_of_ble_eq_true rfl) rfl ?_
  refine G_iconst (pc := 2) (v := 0) hC dX3_occurs_2 (by decide) ?_
  refine G_istore (pc := 3) (i := 4) (lw := [some (va_rf p0), some (.int p1), some (.int p2), some (.int (0 : Int32)), some (.int (0 : Int32))]) hC dX3_occurs_3 (Nat.le_of_ble_eq_true rfl) rfl ?_
  exact g_X3_occurs_5 hJ hC hQ hin _ (0 : Int32) (0 : Int32) M hw
