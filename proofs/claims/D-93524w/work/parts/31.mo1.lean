/-! STAGE 1, printed by wip/D-93524w/genall.py: model, part 1 -/
set_option maxRecDepth 100000
theorem hd_X3_occurs : yX3_occurs.cls = "MergeWorkbenchModel" ∧ yX3_occurs.cls ≠ "java/lang/invoke/MethodHandle" ∧ yX3_occurs.cls ≠ "java/lang/invoke/VarHandle" ∧ (parseMethodDescriptor yX3_occurs.desc).map (fun d => d.parameters.length) = some 3 := by decide +kernel
def w_X3_tellCandidates_178 (g : gT) (F : Nat) (a0 : Nat) (p1 : Option Nat) (p2 : Int32) (p3 : Option Nat) (p4 : Int32) (Q : hM → Prop) (K5 : Int32 → hM → Prop) (v5 : Int32) (M : hM) : Prop :=
  K5 (v5 + (-1 : Int32)) M
def w_X3_tellCandidates_171 (g : gT) (F : Nat) (a0 : Nat) (p1 : Option Nat) (p2 : Int32) (p3 : Option Nat) (p4 : Int32) (Q : hM → Prop) (K113 : Int32 → Int32 → hM → Prop) (v5 : Int32) (v6 : Int32) (s0 : Option Nat) (s1 : Int32) (s2 : Int32) (M : hM) : Prop :=
  sI M s0 0 s1 s2 fun M1 => K113 v5 (v6 + (1 : Int32)) M1
def w_X3_tellCandidates_113 (g : gT) (F : Nat) (a0 : Nat) (p1 : Option Nat) (p2 : Int32) (p3 : Option Nat) (p4 : Int32) (Q : hM → Prop) (K5 : Int32 → hM → Prop) : Nat → Int32 → Int32 → hM → Prop
  | 0, _, _, _ => False
  | n + 1, v5, v6, M => ((p2 ≤ v6 → w_X3_tellCandidates_178 g F a0 p1 p2 p3 p4 Q K5 v5 M) ∧ (¬ (p2 ≤ v6) → gF M (some a0) 2 21 fun x1 => gF M (some a0) 2 20 fun x2 => aI M x2 0 v6 fun x3 => gF M (some a0) 2 20 fun x4 => aI M x4 0 v5 fun x5 => ((x3 ≤ x5 → gF M (some a0) 2 21 fun x6 => aI M x6 0 v5 fun x7 => w_X3_tellCandidates_171 g F a0 p1 p2 p3 p4 Q (fun v5 v6 M => w_X3_tellCandidates_113 g F a0 p1 p2 p3 p4 Q K5 n v5 v6 M) v5 v6 x1 v5 x7 M) ∧ (¬ (x3 ≤ x5) → gF M (some a0) 2 21 fun x8 => aI M x8 0 v5 fun x9 => gF M (some a0) 2 21 fun x10 => aI M x10 0 v6 fun x11 => w_X3_most g F x9 ((1 : Int32) + x11) M (fun x13 M12 => w_X3_tellCandidates_171 g F a0 p1 p2 p3 p4 Q (fun v5 v6 M => w_X3_tellCandidates_113 g F a0 p1 p2 p3 p4 Q K5 n v5 v6 M) v5 v6 x1 v5 x13 M12)))))
def w_X3_tellCandidates_92 (g : gT) (F : Nat) (a0 : Nat) (p1 : Option Nat) (p2 : Int32) (p3 : Option Nat) (p4 : Int32) (Q : hM → Prop) (K56 : Int32 → Int32 → hM → Prop) (v5 : Int32) (v6 : Int32) (s0 : Option Nat) (s1 : Int32) (s2 : Int32) (M : hM) : Prop :=
  sI M s0 0 s1 s2 fun M1 => K56 v5 (v6 + (1 : Int32)) M1
def w_X3_tellCandidates_56 (g : gT) (F : Nat) (a0 : Nat) (p1 : Option Nat) (p2 : Int32) (p3 : Option Nat) (p4 : Int32) (Q : hM → Prop) (K5 : Int32 → hM → Prop) : Nat → Int32 → Int32 → hM → Prop
  | 0, _, _, _ => False
  | n + 1, v5, v6, M => ((p4 ≤ v6 → gF M (some a0) 2 21 fun x1 => sI M x1 0 v5 (1 : Int32) fun M2 => w_X3_tellCandidates_113 g F a0 p1 p2 p3 p4 Q K5 F v5 (v5 + (1 : Int32)) M2) ∧ (¬ (p4 ≤ v6) → gF M (some a0) 2 20 fun x3 => aI M p3 0 v6 fun x4 => aI M p1 0 v5 fun x5 => ((¬ x4 = x5 → gF M (some a0) 2 20 fun x6 => aI M x6 0 v5 fun x7 => w_X3_tellCandidates_92 g F a0 p1 p2 p3 p4 Q (fun v5 v6 M => w_X3_tellCandidates_56 g F a0 p1 p2 p3 p4 Q K5 n v5 v6 M) v5 v6 x3 v5 x7 M) ∧ (x4 = x5 → w_X3_tellCandidates_92 g F a0 p1 p2 p3 p4 Q (fun v5 v6 M => w_X3_tellCandidates_56 g F a0 p1 p2 p3 p4 Q K5 n v5 v6 M) v5 v6 x3 v5 v6 M))))
def w_X3_tellCandidates_5 (g : gT) (F : Nat) (a0 : Nat) (p1 : Option Nat) (p2 : Int32) (p3 : Option Nat) (p4 : Int32) (Q : hM → Prop) : Nat → Int32 → hM → Prop
  | 0, _, _ => False
  | n + 1, v5, M => ((v5 < 0 → Q M) ∧ (¬ (v5 < 0) → gF M (some a0) 2 20 fun x1 => sI M x1 0 v5 (-1 : Int32) fun M2 => gF M2 (some a0) 2 21 fun x3 => sI M2 x3 0 v5 (0 : Int32) fun M4 => aI M4 p1 0 v5 fun x5 => w_X3_occurs g F p1 p2 x5 M4 (fun x7 M6 => ((¬ x7 = (1 : Int32) → w_X3_tellCandidates_178 g F a0 p1 p2 p3 p4 Q (fun v5 M => w_X3_tellCandidates_5 g F a0 p1 p2 p3 p4 Q n v5 M) v5 M6) ∧ (x7 = (1 : Int32) → aI M6 p1 0 v5 fun x8 => w_X3_occurs g F p3 p4 x8 M6 (fun x10 M9 => ((¬ x10 = (1 : Int32) → w_X3_tellCandidates_178 g F a0 p1 p2 p3 p4 Q (fun v5 M => w_X3_tellCandidates_5 g F a0 p1 p2 p3 p4 Q n v5 M) v5 M9) ∧ (x10 = (1 : Int32) → w_X3_tellCandidates_56 g F a0 p1 p2 p3 p4 Q (fun v5 M => w_X3_tellCandidates_5 g F a0 p1 p2 p3 p4 Q n v5 M) F v5 (0 : Int32) M9))))))))
def w_X3_tellCandidates (g : gT) (F : Nat) (a0 : Nat) (p1 : Option Nat) (p2 : Int32) (p3 : Option Nat) (p4 : Int32) (M : hM) (Q : hM → Prop) : Prop :=
  w_X3_tellCandidates_5 g F a0 p1 p2 p3 p4 Q F (p2 - (1 : Int32)) M
theorem g_X3_tellCandidates_178 {k : kT} {F : Nat} {a0 : Nat} {p1 : Option Nat} {p2 : Int32} {p3 : Option Nat} {p4 : Int32} {Q : hM → Prop} {K5 : Int32 → hM → Prop} (hJ : JOK (kl k) (kg k)) (hC : CX k 7 cX3_tellCandidates RX3 none 2 36) (hQ : isQ k (PU Q)) (hin : (kt k).name = "tellCandidates") (hK5 : ∀ (v5 : Int32) (M : hM), K5 v5 M → GW k 7 M 5 [some (va_rf (some a0)), some (va_rf p1), some (.int p2), some (va_rf p3), some (.int p4), some (.int v5), none] []) : ∀ (v5 : Int32) (M : hM), w_X3_tellCandidates_178 (kg k) F a0 p1 p2 p3 p4 Q K5 v5 M → GW k 7 M 178 [some (va_rf (some a0)), some (va_rf p1), some (.int p2), some (va_rf p3), some (.int p4), some (.int v5), none] [] := by
  intro v5 M hw
  refine G_iinc (pc := 178) (i := 5) (v := (v5 + (-1 : Int32))) (lw := [some (va_rf (some a0)), some (va_rf p1), some (.int p2), some (va_rf p3), some (.int p4), some (.int (v5 + (-1 : Int32))), none]) hC dX3_tellCandidates_178 rfl (Nat.le_of_ble_eq_true rfl) rfl rfl ?_
  refine G_goto (pc := 181) (tgt := 5) hC dX3_tellCandidates_181 (by decide) ?_
  exact hK5 (v5 + (-1 : Int32)) M hw
theorem g_X3_tellCandidates_171 {k : kT} {F : Nat} {a0 : Nat} {p1 : Option Nat} {p2 : Int32} {p3 : Option Nat} {p4 : Int32} {Q : hM → Prop} {K113 : Int32 → Int32 → hM → Prop} (hJ : JOK (kl k) (kg k)) (hC : CX k 7 cX3_tellCandidates RX3 none 2 36) (hQ : isQ k (PU Q)) (hin : (kt k).name = "tellCandidates") (hK113 : ∀ (v5 : Int32) (v6 : Int32) (M : hM), K113 v5 v6 M → GW k 7 M 113 [some (va_rf (some a0)), some (va_rf p1), some (.int p2), some (va_rf p3), some (.int p4), some (.int v5), some (.int v6)] []) : ∀ (v5 : Int32) (v6 : Int32) (s0 : Option Nat) (s1 : Int32) (s2 : Int32) (M : hM), w_X3_tellCandidates_171 (kg k) F a0 p1 p2 p3 p4 Q K113 v5 v6 s0 s1 s2 M → GW k 7 M 171 [some (va_rf (some a0)), some (va_rf p1), some (.int p2), some (va_rf p3), some (.int p4), some (.int v5), some (.int v6)] [.int s2, .int s1, va_rf s0] := by
  intro v5 v6 s0 s1 s2 M hw
  refine G_iast (pc := 171) hC dX3_tellCandidates_171 hw (fun M1 hw => ?_)
  refine G_iinc (pc := 172) (i := 6) (v := (v6 + (1 : Int32))) (lw := [some (va_rf (some a0)), some (va_rf p1), some (.int p2), some (va_rf p3), some (.int p4), some (.int v5), some (.int (v6 + (1 : Int32)))]) hC dX3_tellCandidates_172 rfl (Nat.le_of_ble_eq_true rfl) rfl rfl ?_
  refine G_goto (pc := 175) (tgt := 113) hC dX3_tellCandidates_175 (by decide) ?_
  exact hK113 v5 (v6 + (1 : Int32)) M1 hw
theorem g_X3_tellCandidates_113 {k : kT} {F : Nat} {a0 : Nat} {p1 : Option Nat} {p2 : Int32} {p3 : Option Nat} {p4 : Int32} {Q : hM → Prop} {K5 : Int32 → hM → Prop} (hJ : JOK (kl k) (kg k)) (hC : CX k 7 cX3_tellCandidates RX3 none 2 36) (hQ : isQ k (PU Q)) (hin : (kt k).name = "tellCandidates") (hK5 : ∀ (v5 : Int32) (M : hM), K5 v5 M → GW k 7 M 5 [some (va_rf (some a0)), some (va_rf p1), some (.int p2), some (va_rf p3), some (.int p4), some (.int v5), none] []) : ∀ (n : Nat) (v5 : Int32) (v6 : Int32) (M : hM), w_X3_tellCandidates_113 (kg k) F a0 p1 p2 p3 p4 Q K5 n v5 v6 M → GW k 7 M 113 [some (va_rf (some a0)), some (va_rf p1), some (.int p2), some (va_rf p3), some (.int p4), some (.int v5), some (.int v6)] [] := by
  intro n
  induction n with
  | zero =>
    intro v5 v6 M hw
    exact hw.elim
  | succ n ih =>
    intro v5 v6 M hw
    refine G_iload (pc := 113) (i := 6) hC dX3_tellCandidates_113 rfl ?_
    refine G_iload_n (pc := 115) (i := 2) hC dX3_tellCandidates_115 rfl rfl ?_
    refine G_icmp_ge (pc := 116) (tgt := 178) hC dX3_tellCandidates_116 (by decide) (fun hc => ?_) (fun hc => ?_)
    · replace hw := hw.1 hc
      refine G_loc (lv' := [some (va_rf (some a0)), some (va_rf p1), some (.int p2), some (va_rf p3), some (.int p4), some (.int v5), none]) ⟨Or.inr rfl, Or.inr rfl, Or.inr rfl, Or.inr rfl, Or.inr rfl, Or.inr rfl, Or.inl rfl, trivial⟩ ?_
      exact g_X3_tellCandidates_178 hJ hC hQ hin hK5  v5 M hw
    · replace hw := hw.2 hc
      refine G_aload_n (pc := 119) (i := 0) hC dX3_tellCandidates_119 rfl rfl ?_
      refine G_getF (pc := 120) (ci := 2) (C := RX3) (T := TX3) (N := 61) (f := 21) hC rfl in_X3 (Nat.le_of_ble_eq_true rfl) q3395 (fun _ h => h) dX3_tellCandidates_120 hw (fun x1 hw => ?_)
      refine G_iload (pc := 123) (i := 5) hC dX3_tellCandidates_123 rfl ?_
      refine G_aload_n (pc := 125) (i := 0) hC dX3_tellCandidates_125 rfl rfl ?_
      refine G_getF (pc := 126) (ci := 2) (C := RX3) (T := TX3) (N := 61) (f := 20) hC rfl in_X3 (Nat.le_of_ble_eq_true rfl) q3394 (fun _ h => h) dX3_tellCandidates_126 hw (fun x2 hw => ?_)
      refine G_iload (pc := 129) (i := 6) hC dX3_tellCandidates_129 rfl ?_
      refine G_iald (pc := 131) hC dX3_tellCandidates_131 hw (fun x3 hw => ?_)
      refine G_aload_n (pc := 132) (i := 0) hC dX3_tellCandidates_132 rfl rfl ?_
      refine G_getF (pc := 133) (ci := 2) (C := RX3) (T := TX3) (N := 61) (f := 20) hC rfl in_X3 (Nat.le_of_ble_eq_true rfl) q3394 (fun _ h => h) dX3_tellCandidates_133 hw (fun x4 hw => ?_)
      refine G_iload (pc := 136) (i := 5) hC dX3_tellCandidates_136 rfl ?_
      refine G_iald (pc := 138) hC dX3_tellCandidates_138 hw (fun x5 hw => ?_)
      refine G_icmp_le (pc := 139) (tgt := 164) hC dX3_tellCandidates_139 (by decide) (fun hc => ?_) (fun hc => ?_)
      · replace hw := hw.1 hc
        refine G_aload_n (pc := 164) (i := 0) hC dX3_tellCandidates_164 rfl rfl ?_
        refine G_getF (pc := 165) (ci := 2) (C := RX3) (T := TX3) (N := 61) (f := 21) hC rfl in_X3 (Nat.le_of_ble_eq_true rfl) q3395 (fun _ h => h) dX3_tellCandidates_165 hw (fun x6 hw => ?_)
        refine G_iload (pc := 168) (i := 5) hC dX3_tellCandidates_168 rfl ?_
        refine G_iald (pc := 170) hC dX3_tellCandidates_170 hw (fun x7 hw => ?_)
        exact g_X3_tellCandidates_171 hJ hC hQ hin ih  v5 v6 x1 v5 x7 M hw
      · replace hw := hw.2 hc
        refine G_aload_n (pc := 142) (i := 0) hC dX3_tellCandidates_142 rfl rfl ?_
        refine G_getF (pc := 143) (ci := 2) (C := RX3) (T := TX3) (N := 61) (f := 21) hC rfl in_X3 (Nat.le_of_ble_eq_true rfl) q3395 (fun _ h => h) dX3_tellCandidates_143 hw (fun x8 hw => ?_)
        refine G_iload (pc := 146) (i := 5) hC dX3_tellCandidates_146 rfl ?_
        refine G_iald (pc := 148) hC dX3_tellCandidates_148 hw (fun x9 hw => ?_)
        refine G_iconst (pc := 149) (v := 1) hC dX3_tellCandidates_149 (by decide) ?_
        refine G_aload_n (pc := 150) (i := 0) hC dX3_tellCandidates_150 rfl rfl ?_
        refine G_getF (pc := 151) (ci := 2) (C := RX3) (T := TX3) (N := 61) (f := 21) hC rfl in_X3 (Nat.le_of_ble_eq_true rfl) q3395 (fun _ h => h) dX3_tellCandidates_151 hw (fun x10 hw => ?_)
        refine G_iload (pc := 154) (i := 6) hC dX3_tellCandidates_154 rfl ?_
        refine G_iald (pc := 156) hC dX3_tellCandidates_156 hw (fun x11 hw => ?_)
        refine G_iadd (pc := 157) hC dX3_tellCandidates_157 ?_
        refine G_callS (pc := 158) (n := 2) (As := [.int x9, .int ((1 : Int32) + x11)]) (rest := [.int v5, va_rf x1]) hC (m_X3_most hJ hw) (lw_S q3660 q3661 q108 q3662) hd_X3_most.2 (by decide) rfl rfl (st_c (cat_i (cat_r cat_e)) (Nat.le_of_ble_eq_true rfl)) dX3_tellCandidates_158 (kI fun x13 M12 hw => ?_)
        refine G_goto (pc := 161) (tgt := 171) hC dX3_tellCandidates_161 (by decide) ?_
        exact g_X3_tellCandidates_171 hJ hC hQ hin ih  v5 v6 x1 v5 x13 M12 hw
theorem g_X3_tellCandidates_92 {k : kT} {F : Nat} {a0 : Nat} {p1 : Option Nat} {p2 : Int32} {p3 : Option Nat} {p4 : Int32} {Q : hM → Prop} {K56 : Int32 → Int32 → hM → Prop} (hJ : JOK (kl k) (kg k)) (hC : CX k 7 cX3_tellCandidates RX3 none 2 36) (hQ : isQ k (PU Q)) (hin : (kt k).name = "tellCandidates") (hK56 : ∀ (v5 : Int32) (v6 : Int32) (M : hM), K56 v5 v6 M → GW k 7 M 56 [some (va_rf (some a0)), some (va_rf p1), some (.int p2), some (va_rf p3), some (.int p4), some (.int v5), some (.int v6)] []) : ∀ (v5 : Int32) (v6 : Int32) (s0 : Option Nat) (s1 : Int32) (s2 : Int32) (M : hM), w_X3_tellCandidates_92 (kg k) F a0 p1 p2 p3 p4 Q K56 v5 v6 s0 s1 s2 M → GW k 7 M 92 [some (va_rf (some a0)), some (va_rf p1), some (.int p2), some (va_rf p3), some (.int p4), some (.int v5), some (.int v6)] [.int s2, .int s1, va_rf s0] := by
  intro v5 v6 s0 s1 s2 M hw
  refine G_iast (pc := 92) hC dX3_tellCandidates_92 hw (fun M1 hw => ?_)
  refine G_iinc (pc := 93) (i := 6) (v := (v6 + (1 : Int32))) (lw := [some (va_rf (some a0)), some (va_rf p1), some (.int p2), some (va_rf p3), some (.int p4), some (.int v5), some (.int (v6 + (1 : Int32)))]) hC dX3_tellCandidates_93 rfl (Nat.le_of_ble_eq_true rfl) rfl rfl ?_
  refine G_goto (pc := 96) (tgt := 56) hC dX3_tellCandidates_96 (by decide) ?_
  exact hK56 v5 (v6 + (1 : Int32)) M1 hw
theorem g_X3_tellCandidates_56 {k : kT} {F : Nat} {a0 : Nat} {p1 : Option Nat} {p2 : Int32} {p3 : Option Nat} {p4 : Int32} {Q : hM → Prop} {K5 : Int32 → hM → Prop} (hJ : JOK (kl k) (kg k)) (hC : CX k 7 cX3_tellCandidates RX3 none 2 36) (hQ : isQ k (PU Q)) (hin : (kt k).name = "tellCandidates") (hK5 : ∀ (v5 : Int32) (M : hM), K5 v5 M → GW k 7 M 5 [some (va_rf (some a0)), some (va_rf p1), some (.int p2), some (va_rf p3), some (.int p4), some (.int v5), none] []) : ∀ (n : Nat) (v5 : Int32) (v6 : Int32) (M : hM), w_X3_tellCandidates_56 (kg k) F a0 p1 p2 p3 p4 Q K5 n v5 v6 M → GW k 7 M 56 [some (va_rf (some a0)), some (va_rf p1), some (.int p2), some (va_rf p3), some (.int p4), some (.int v5), some (.int v6)] [] := by
  intro n
  induction n with
  | zero =>
    intro v5 v6 M hw
    exact hw.elim
  | succ n ih =>
    intro v5 v6 M hw
    refine G_iload (pc := 56) (i := 6) hC dX3_tellCandidates_56 rfl ?_
    refine G_iload (pc := 58) (i := 4) hC dX3_tellCandidates_58 rfl ?_
    refine G_icmp_ge (pc := 60) (tgt := 99) hC dX3_tellCandidates_60 (by decide) (fun hc => ?_) (fun hc => ?_)
    · replace hw := hw.1 hc
      refine G_aload_n (pc := 99) (i := 0) hC dX3_tellCandidates_99 rfl rfl ?_
      refine G_getF (pc := 100) (ci := 2) (C := RX3) (T := TX3) (N := 61) (f := 21) hC rfl in_X3 (Nat.le_of_ble_eq_true rfl) q3395 (fun _ h => h) dX3_tellCandidates_100 hw (fun x1 hw => ?_)
      refine G_iload (pc := 103) (i := 5) hC dX3_tellCandidates_103 rfl ?_
      refine G_iconst (pc := 105) (v := 1) hC dX3_tellCandidates_105 (by decide) ?_
      refine G_iast (pc := 106) hC dX3_tellCandidates_106 hw (fun M2 hw => ?_)
      refine G_iload (pc := 107) (i := 5) hC dX3_tellCandidates_107 rfl ?_
      refine G_iconst (pc := 109) (v := 1) hC dX3_tellCandidates_109 (by decide) ?_
      refine G_iadd (pc := 110) hC dX3_tellCandidates_110 ?_
      refine G_istore (pc := 111) (i := 6) (lw := [some (va_rf (some a0)), some (va_rf p1), some (.int p2), some (va_rf p3), some (.int p4), some (.int v5), some (.int (v5 + (1 : Int32)))]) hC dX3_tellCandidates_111 (Nat.le_of_ble_eq_true rfl) rfl ?_
      exact g_X3_tellCandidates_113 hJ hC hQ hin hK5 _ v5 (v5 + (1 : Int32)) M2 hw
    · replace hw := hw.2 hc
      refine G_aload_n (pc := 63) (i := 0) hC dX3_tellCandidates_63 rfl rfl ?_
      refine G_getF (pc := 64) (ci := 2) (C := RX3) (T := TX3) (N := 61) (f := 20) hC rfl in_X3 (Nat.le_of_ble_eq_true rfl) q3394 (fun _ h => h) dX3_tellCandidates_64 hw (fun x3 hw => ?_)
      refine G_iload (pc := 67) (i := 5) hC dX3_tellCandidates_67 rfl ?_
      refine G_aload_n (pc := 69) (i := 3) hC dX3_tellCandidates_69 rfl rfl ?_
      refine G_iload (pc := 70) (i := 6) hC dX3_tellCandidates_70 rfl ?_
      refine G_iald (pc := 72) hC dX3_tellCandidates_72 hw (fun x4 hw => ?_)
      refine G_aload_n (pc := 73) (i := 1) hC dX3_tellCandidates_73 rfl rfl ?_
      refine G_iload (pc := 74) (i := 5) hC dX3_tellCandidates_74 rfl ?_
      refine G_iald (pc := 76) hC dX3_tellCandidates_76 hw (fun x5 hw => ?_)
      refine G_icmp_ne (pc := 77) (tgt := 85) hC dX3_tellCandidates_77 (by decide) (fun hc => ?_) (fun hc => ?_)
      · replace hw := hw.1 hc
        refine G_aload_n (pc := 85) (i := 0) hC dX3_tellCandidates_85 rfl rfl ?_
        refine G_getF (pc := 86) (ci := 2) (C := RX3) (T := TX3) (N := 61) (f := 20) hC rfl in_X3 (Nat.le_of_ble_eq_true rfl) q3394 (fun _ h => h) dX3_tellCandidates_86 hw (fun x6 hw => ?_)
        refine G_iload (pc := 89) (i := 5) hC dX3_tellCandidates_89 rfl ?_
        refine G_iald (pc := 91) hC dX3_tellCandidates_91 hw (fun x7 hw => ?_)
        exact g_X3_tellCandidates_92 hJ hC hQ hin ih  v5 v6 x3 v5 x7 M hw
      · replace hw := hw.2 hc
        refine G_iload (pc := 80) (i := 6) hC dX3_tellCandidates_80 rfl ?_
        refine G_goto (pc := 82) (tgt := 92) hC dX3_tellCandidates_82 (by decide) ?_
        exact g_X3_tellCandidates_92 hJ hC hQ hin ih  v5 v6 x3 v5 v6 M hw
theorem g_X3_tellCandidates_5 {k : kT} {F : Nat} {a0 : Nat} {p1 : Option Nat} {p2 : Int32} {p3 : Option Nat} {p4 : Int32} {Q : hM → Prop} (hJ : JOK (kl k) (kg k)) (hC : CX k 7 cX3_tellCandidates RX3 none 2 36) (hQ : isQ k (PU Q)) (hin : (kt k).name = "tellCandidates") : ∀ (n : Nat) (v5 : Int32) (M : hM), w_X3_tellCandidates_5 (kg k) F a0 p1 p2 p3 p4 Q n v5 M → GW k 7 M 5 [some (va_rf (some a0)), some (va_rf p1), some (.int p2), some (va_rf p3), some (.int p4), some (.int v5), none] [] := by
  intro n
  induction n with
  | zero =>
    intro v5 M hw
    exact hw.elim
  | succ n ih =>
    intro v5 M hw
    refine G_iload (pc := 5) (i := 5) hC dX3_tellCandidates_5 rfl ?_
    refine G_if_lt (pc := 7) (tgt := 184) hC dX3_tellCandidates_7 (by decide) (fun hc => ?_) (fun hc => ?_)
    · replace hw := hw.1 hc
      exact G_ret (pc := 184) hC hQ dX3_tellCandidates_184 hw
    · replace hw := hw.2 hc
      refine G_aload_n (pc := 10) (i := 0) hC dX3_tellCandidates_10 rfl rfl ?_
      refine G_getF (pc := 11) (ci := 2) (C := RX3) (T := TX3) (N := 61) (f := 20) hC rfl in_X3 (Nat.le_of_ble_eq_true rfl) q3394 (fun _ h => h) dX3_tellCandidates_11 hw (fun x1 hw => ?_)
      refine G_iload (pc := 14) (i := 5) hC dX3_tellCandidates_14 rfl ?_
      refine G_iconst (pc := 16) (v := -1) hC dX3_tellCandidates_16 (by decide) ?_
      refine G_iast (pc := 17) hC dX3_tellCandidates_17 hw (fun M2 hw => ?_)
      refine G_aload_n (pc := 18) (i := 0) hC dX3_tellCandidates_18 rfl rfl ?_
      refine G_getF (pc := 19) (ci := 2) (C := RX3) (T := TX3) (N := 61) (f := 21) hC rfl in_X3 (Nat.le_of_ble_eq_true rfl) q3395 (fun _ h => h) dX3_tellCandidates_19 hw (fun x3 hw => ?_)
      refine G_iload (pc := 22) (i := 5) hC dX3_tellCandidates_22 rfl ?_
      refine G_iconst (pc := 24) (v := 0) hC dX3_tellCandidates_24 (by decide) ?_
      refine G_iast (pc := 25) hC dX3_tellCandidates_25 hw (fun M4 hw => ?_)
      refine G_aload_n (pc := 26) (i := 1) hC dX3_tellCandidates_26 rfl rfl ?_
      refine G_iload_n (pc := 27) (i := 2) hC dX3_tellCandidates_27 rfl rfl ?_
      refine G_aload_n (pc := 28) (i := 1) hC dX3_tellCandidates_28 rfl rfl ?_
      refine G_iload (pc := 29) (i := 5) hC dX3_tellCandidates_29 rfl ?_
      refine G_iald (pc := 31) hC dX3_tellCandidates_31 hw (fun x5 hw => ?_)
      refine G_callS (pc := 32) (n := 3) (As := [va_rf p1, .int p2, .int x5]) (rest := []) hC (m_X3_occurs hJ hw) (lw_S q3679 q3680 q108 q3681) hd_X3_occurs.2 (by decide) rfl rfl (st_c cat_e (Nat.le_of_ble_eq_true rfl)) dX3_tellCandidates_32 (kI fun x7 M6 hw => ?_)
      refine G_iconst (pc := 35) (v := 1) hC dX3_tellCandidates_35 (by decide) ?_
      refine G_icmp_ne (pc := 36) (tgt := 178) hC dX3_tellCandidates_36 (by decide) (fun hc => ?_) (fun hc => ?_)
      · replace hw := hw.1 hc
        exact g_X3_tellCandidates_178 hJ hC hQ hin ih  v5 M6 hw
      · replace hw := hw.2 hc
        refine G_aload_n (pc := 39) (i := 3) hC dX3_tellCandidates_39 rfl rfl ?_
        refine G_iload (pc := 40) (i := 4) hC dX3_tellCandidates_40 rfl ?_
        refine G_aload_n (pc := 42) (i := 1) hC dX3_tellCandidates_42 rfl rfl ?_
        refine G_iload (pc := 43) (i := 5) hC dX3_tellCandidates_43 rfl ?_
        refine G_iald (pc := 45) hC dX3_tellCandidates_45 hw (fun x8 hw => ?_)
        refine G_callS (pc := 46) (n := 3) (As := [va_rf p3, .int p4, .int x8]) (rest := []) hC (m_X3_occurs hJ hw) (lw_S q3679 q3680 q108 q3681) hd_X3_occurs.2 (by decide) rfl rfl (st_c cat_e (Nat.le_of_ble_eq_true rfl)) dX3_tellCandidates_46 (kI fun x10 M9 hw => ?_)
        refine G_iconst (pc := 49) (v := 1) hC dX3_tellCandidates_49 (by decide) ?_
        refine G_icmp_ne (pc := 50) (tgt := 178) hC dX3_tellCandidates_50 (by decide) (fun hc => ?_) (fun hc => ?_)
        · replace hw := hw.1 hc
          exact g_X3_tellCandidates_178 hJ hC hQ hin ih  v5 M9 hw
        · replace hw := hw.2 hc
          refine G_iconst (pc := 53) (v := 0) hC dX3_tellCandidates_53 (by decide) ?_
          refine G_istore (pc := 54) (i := 6) (lw := [some (va_rf (some a0)), some (va_rf p1), some (.int p2), some (va_rf p3), some (.int p4), some (.int v5), some (.int (0 : Int32))]) hC dX3_tellCandidates_54 (Nat.le_of_ble_eq_true rfl) rfl ?_
          exact g_X3_tellCandidates_56 hJ hC hQ hin ih _ v5 (0 : Int32) M9 hw
theorem m_X3_tellCandidates {l : Launch} {g : gT} {F : Nat} {a0 : Nat} {p1 : Option Nat} {p2 : Int32} {p3 : Option Nat} {p4 : Int32} {M : hM} {Q : hM → Prop} (hJ : JOK l g) (hw : w_X3_tellCandidates g F a0 p1 p2 p3 p4 M Q) : MG l g yX3_tellCandidates (ws_ yX3_tellCandidates cX3_tellCandidates 7 none) 2 36 [va_rf (some a0), va_rf p1, .int p2, va_rf p3, .int p4] M (PU Q) := by
  refine MG_of hJ.2.1 (by decide) (cat_r (cat_r (cat_i (cat_r (cat_i cat_e))))) (Nat.le_of_ble_eq_true rfl) (fun k hl hg hin hQ hC => ?_)
  subst hl hg
  show GW k 7 M 0 [some (va_rf (some a0)), some (va_rf p1), some (.int p2), some (va_rf p3), some (.int p4), none, none] []
  refine G_iload_n (pc := 0) (i := 2) hC dX3_tellCandidates_0 rfl rfl ?_
  refine G_iconst (pc := 1) (v := 1) hC dX3_tellCandidates_1 (by decide) ?_
  refine G_isub (pc := 2) hC dX3_tellCandidates_2 ?_
  refine G_istore (pc := 3) (i := 5) (lw := [some (va_rf (some a0)), some (va_rf p1), some (.int p2), some (va_rf p3), some (.int p4), some (.int (p2 - (1 : Int32))), none]) hC dX3_tellCandidates_3 (Nat.le_of_ble_eq_true rfl) rfl ?_
  exact g_X3_tellCandidates_5 hJ hC hQ hin _ (p2 - (1 : Int32)) M hw
def w_X3_pairs_113 (g : gT) (F : Nat) (a0 : Nat) (p1 : Option Nat) (p2 : Option Nat) (p3 : Int32) (p4 : Int32) (p5 : Int32) (p6 : Int32) (p7 : Option Nat) (Q : hM → Prop) (K29 : Int32 → Int32 → Int32 → hM → Prop) (v8 : Int32) (v9 : Int32) (v10 : Int32) (M : hM) : Prop :=
  K29 v8 v9 (v10 + (1 : Int32)) M
def w_X3_pairs_107 (g : gT) (F : Nat) (a0 : Nat) (p1 : Option Nat) (p2 : Option Nat) (p3 : Int32) (p4 : Int32) (p5 : Int32) (p6 : Int32) (p7 : Option Nat) (Q : hM → Prop) (K40 : Int32 → Int32 → Int32 → Int32 → hM → Prop) (v8 : Int32) (v9 : Int32) (v10 : Int32) (v11 : Int32) (M : hM) : Prop :=
  K40 v8 v9 v10 (v11 + (1 : Int32)) M
def w_X3_pairs_40 (g : gT) (F : Nat) (a0 : Nat) (p1 : Option Nat) (p2 : Option Nat) (p3 : Int32) (p4 : Int32) (p5 : Int32) (p6 : Int32) (p7 : Option Nat) (Q : hM → Prop) (K29 : Int32 → Int32 → Int32 → hM → Prop) : Nat → Int32 → Int32 → Int32 → Int32 → hM → Prop
  | 0, _, _, _, _, _ => False
  | n + 1, v8, v9, v10, v11, M => ((p6 ≤ v11 → w_X3_pairs_113 g F a0 p1 p2 p3 p4 p5 p6 p7 Q K29 v8 v9 v10 M) ∧ (¬ (p6 ≤ v11) → aI M p7 0 v10 fun x1 => ((¬ x1 = (-1 : Int32) → w_X3_pairs_113 g F a0 p1 p2 p3 p4 p5 p6 p7 Q K29 v8 v9 v10 M) ∧ (x1 = (-1 : Int32) → ((v9 ≤ 0 → w_X3_pairs_113 g F a0 p1 p2 p3 p4 p5 p6 p7 Q K29 v8 v9 v10 M) ∧ (¬ (v9 ≤ 0) → aI M p1 0 v10 fun x2 => aI M p2 0 v11 fun x3 => ((¬ x2 = x3 → w_X3_pairs_107 g F a0 p1 p2 p3 p4 p5 p6 p7 Q (fun v8 v9 v10 v11 M => w_X3_pairs_40 g F a0 p1 p2 p3 p4 p5 p6 p7 Q K29 n v8 v9 v10 v11 M) v8 v9 v10 v11 M) ∧ (x2 = x3 → (isC M a0 2 ∧ w_X3_longestOf g F a0 (v10 + (1 : Int32)) (v11 + (1 : Int32)) M (fun x5 M4 => ((¬ x5 = (v9 - (1 : Int32)) → w_X3_pairs_107 g F a0 p1 p2 p3 p4 p5 p6 p7 Q (fun v8 v9 v10 v11 M => w_X3_pairs_40 g F a0 p1 p2 p3 p4 p5 p6 p7 Q K29 n v8 v9 v10 v11 M) v8 v9 v10 v11 M4) ∧ (x5 = (v9 - (1 : Int32)) → sI M4 p7 0 v10 v11 fun M6 => w_X3_pairs_107 g F a0 p1 p2 p3 p4 p5 p6 p7 Q (fun v8 v9 v10 v11 M => w_X3_pairs_40 g F a0 p1 p2 p3 p4 p5 p6 p7 Q K29 n v8 v9 v10 v11 M) (v11 + (1 : Int32)) (v9 + (-1 : Int32)) v10 v11 M6))))))))))))
def w_X3_pairs_29 (g : gT) (F : Nat) (a0 : Nat) (p1 : Option Nat) (p2 : Option Nat) (p3 : Int32) (p4 : Int32) (p5 : Int32) (p6 : Int32) (p7 : Option Nat) (Q : hM → Prop) : Nat → Int32 → Int32 → Int32 → hM → Prop
  | 0, _, _, _, _ => False
  | n + 1, v8, v9, v10, M => ((p4 ≤ v10 → Q M) ∧ (¬ (p4 ≤ v10) → w_X3_pairs_40 g F a0 p1 p2 p3 p4 p5 p6 p7 Q (fun v8 v9 v10 M => w_X3_pairs_29 g F a0 p1 p2 p3 p4 p5 p6 p7 Q n v8 v9 v10 M) F v8 v9 v10 v8 M))
def w_X3_pairs (g : gT) (F : Nat) (a0 : Nat) (p1 : Option Nat) (p2 : Option Nat) (p3 : Int32) (p4 : Int32) (p5 : Int32) (p6 : Int32) (p7 : Option Nat) (M : hM) (Q : hM → Prop) : Prop :=
  (isC M a0 2 ∧ w_X3_measures g F a0 p1 p2 p3 p4 p5 p6 M (fun M1 => (isC M1 a0 2 ∧ w_X3_longestOf g F a0 p3 p5 M1 (fun x3 M2 => w_X3_pairs_29 g F a0 p1 p2 p3 p4 p5 p6 p7 Q F p5 x3 p3 M2))))
theorem g_X3_pairs_113 {k : kT} {F : Nat} {a0 : Nat} {p1 : Option Nat} {p2 : Option Nat} {p3 : Int32} {p4 : Int32} {p5 : Int32} {p6 : Int32} {p7 : Option Nat} {Q : hM → Prop} {K29 : Int32 → Int32 → Int32 → hM → Prop} (hJ : JOK (kl k) (kg k)) (hC : CX k 12 cX3_pairs RX3 none 3 63) (hQ : isQ k (PU Q)) (hin : (kt k).name = "pairs") (hK29 : ∀ (v8 : Int32) (v9 : Int32) (v10 : Int32) (M : hM), K29 v8 v9 v10 M → GW k 12 M 29 [some (va_rf (some a0)), some (va_rf p1), some (va_rf p2), some (.int p3), some (.int p4), some (.int p5), some (.int p6), some (va_rf p7), some (.int v8), some (.int v9), some (.int v10), none] []) : ∀ (v8 : Int32) (v9 : Int32) (v10 : Int32) (M : hM), w_X3_pairs_113 (kg k) F a0 p1 p2 p3 p4 p5 p6 p7 Q K29 v8 v9 v10 M → GW k 12 M 113 [some (va_rf (some a0)), some (va_rf p1), some (va_rf p2), some (.int p3), some (.int p4), some (.int p5), some (.int p6), some (va_rf p7), some (.int v8), some (.int v9), some (.int v10), none] [] := by
  intro v8 v9 v10 M hw
  refine G_iinc (pc := 113) (i := 10) (v := (v10 + (1 : Int32))) (lw := [some (va_rf (some a0)), some (va_rf p1), some (va_rf p2), some (.int p3), some (.int p4), some (.int p5), some (.int p6), some (va_rf p7), some (.int v8), some (.int v9), some (.int (v10 + (1 : Int32))), none]) hC dX3_pairs_113 rfl (Nat.le_of_ble_eq_true rfl) rfl rfl ?_
  refine G_goto (pc := 116) (tgt := 29) hC dX3_pairs_116 (by decide) ?_
  exact hK29 v8 v9 (v10 + (1 : Int32)) M hw
theorem g_X3_pairs_107 {k : kT} {F : Nat} {a0 : Nat} {p1 : Option Nat} {p2 : Option Nat} {p3 : Int32} {p4 : Int32} {p5 : Int32} {p6 : Int32} {p7 : Option Nat} {Q : hM → Prop} {K40 : Int32 → Int32 → Int32 → Int32 → hM → Prop} (hJ : JOK (kl k) (kg k)) (hC : CX k 12 cX3_pairs RX3 none 3 63) (hQ : isQ k (PU Q)) (hin : (kt k).name = "pairs") (hK40 : ∀ (v8 : Int32) (v9 : Int32) (v10 : Int32) (v11 : Int32) (M : hM), K40 v8 v9 v10 v11 M → GW k 12 M 40 [some (va_rf (some a0)), some (va_rf p1), some (va_rf p2), some (.int p3), some (.int p4), some (.int p5), some (.int p6), some (va_rf p7), some (.int v8), some (.int v9), some (.int v10), some (.int v11)] []) : ∀ (v8 : Int32) (v9 : Int32) (v10 : Int32) (v11 : Int32) (M : hM), w_X3_pairs_107 (kg k) F a0 p1 p2 p3 p4 p5 p6 p7 Q K40 v8 v9 v10 v11 M → GW k 12 M 107 [some (va_rf (some a0)), some (va_rf p1), some (va_rf p2), some (.int p3), some (.int p4), some (.int p5), some (.int p6), some (va_rf p7), some (.int v8), some (.int v9), some (.int v10), some (.int v11)] [] := by
  intro v8 v9 v10 v11 M hw
  refine G_iinc (pc := 107) (i := 11) (v := (v11 + (1 : Int32))) (lw := [some (va_rf (some a0)), some (va_rf p1), some (va_rf p2), some (.int p3), some (.int p4), some (.int p5), some (.int p6), some (va_rf p7), some (.int v8), some (.int v9), some (.int v10), some (.int (v11 + (1 : Int32)))]) hC dX3_pairs_107 rfl (Nat.le_of_ble_eq_true rfl) rfl rfl ?_
  refine G_goto (pc := 110) (tgt := 40) hC dX3_pairs_110 (by decide) ?_
  exact hK40 v8 v9 v10 (v11 + (1 : Int32)) M hw
theorem g_X3_pairs_40 {k : kT} {F : Nat} {a0 : Nat} {p1 : Option Nat} {p2 : Option Nat} {p3 : Int32} {p4 : Int32} {p5 : Int32} {p6 : Int32} {p7 : Option Nat} {Q : hM → Prop} {K29 : Int32 → Int32 → Int32 → hM → Prop} (hJ : JOK (kl k) (kg k)) (hC : CX k 12 cX3_pairs RX3 none 3 63) (hQ : isQ k (PU Q)) (hin : (kt k).name = "pairs") (hK29 : ∀ (v8 : Int32) (v9 : Int32) (v10 : Int32) (M : hM), K29 v8 v9 v10 M → GW k 12 M 29 [some (va_rf (some a0)), some (va_rf p1), some (va_rf p2), some (.int p3), some (.int p4), some (.int p5), some (.int p6), some (va_rf p7), some (.int v8), some (.int v9), some (.int v10), none] []) : ∀ (n : Nat) (v8 : Int32) (v9 : Int32) (v10 : Int32) (v11 : Int32) (M : hM), w_X3_pairs_40 (kg k) F a0 p1 p2 p3 p4 p5 p6 p7 Q K29 n v8 v9 v10 v11 M → GW k 12 M 40 [some (va_rf (some a0)), some (va_rf p1), some (va_rf p2), some (.int p3), some (.int p4), some (.int p5), some (.int p6), some (va_rf p7), some (.int v8), some (.int v9), some (.int v10), some (.int v11)] [] := by
  intro n
  induction n with
  | zero =>
    intro v8 v9 v10 v11 M hw
    exact hw.elim
  | succ n ih =>
    intro v8 v9 v10 v11 M hw
    refine G_iload (pc := 40) (i := 11) hC dX3_pairs_40 rfl ?_
    refine G_iload (pc := 42) (i := 6) hC dX3_pairs_42 rfl ?_
    refine G_icmp_ge (pc := 44) (tgt := 113) hC dX3_pairs_44 (by decide) (fun hc => ?_) (fun hc => ?_)
    · replace hw := hw.1 hc
      refine G_loc (lv' := [some (va_rf (some a0)), some (va_rf p1), some (va_rf p2), some (.int p3), some (.int p4), some (.int p5), some (.int p6), some (va_rf p7), some (.int v8), some (.int v9), some (.int v10), none]) ⟨Or.inr rfl, Or.inr rfl, Or.inr rfl, Or.inr rfl, Or.inr rfl, Or.inr rfl, Or.inr rfl, Or.inr rfl, Or.inr rfl, Or.inr rfl, Or.inr rfl, Or.inl rfl, trivial⟩ ?_
      exact g_X3_pairs_113 hJ hC hQ hin hK29  v8 v9 v10 M hw
    · replace hw := hw.2 hc
      refine G_aload (pc := 47) (i := 7) hC dX3_pairs_47 rfl ?_
      refine G_iload (pc := 49) (i := 10) hC dX3_pairs_49 rfl ?_
      refine G_iald (pc := 51) hC dX3_pairs_51 hw (fun x1 hw => ?_)
      refine G_iconst (pc := 52) (v := -1) hC dX3_pairs_52 (by decide) ?_
      refine G_icmp_ne (pc := 53) (tgt := 113) hC dX3_pairs_53 (by decide) (fun hc => ?_) (fun hc => ?_)
      · replace hw := hw.1 hc
        refine G_loc (lv' := [some (va_rf (some a0)), some (va_rf p1), some (va_rf p2), some (.int p3), some (.int p4), some (.int p5), some (.int p6), some (va_rf p7), some (.int v8), some (.int v9), some (.int v10), none]) ⟨Or.inr rfl, Or.inr rfl, Or.inr rfl, Or.inr rfl, Or.inr rfl, Or.inr rfl, Or.inr rfl, Or.inr rfl, Or.inr rfl, Or.inr rfl, Or.inr rfl, Or.inl rfl, trivial⟩ ?_
        exact g_X3_pairs_113 hJ hC hQ hin hK29  v8 v9 v10 M hw
      · replace hw := hw.2 hc
        refine G_iload (pc := 56) (i := 9) hC dX3_pairs_56 rfl ?_
        refine G_if_le (pc := 58) (tgt := 113) hC dX3_pairs_58 (by decide) (fun hc => ?_) (fun hc => ?_)
        · replace hw := hw.1 hc
          refine G_loc (lv' := [some (va_rf (some a0)), some (va_rf p1), some (va_rf p2), some (.int p3), some (.int p4), some (.int p5), some (.int p6), some (va_rf p7), some (.int v8), some (.int v9), some (.int v10), none]) ⟨Or.inr rfl, Or.inr rfl, Or.inr rfl, Or.inr rfl, Or.inr rfl, Or.inr rfl, Or.inr rfl, Or.inr rfl, Or.inr rfl, Or.inr rfl, Or.inr rfl, Or.inl rfl, trivial⟩ ?_
          exact g_X3_pairs_113 hJ hC hQ hin hK29  v8 v9 v10 M hw
        · replace hw := hw.2 hc
          refine G_aload_n (pc := 61) (i := 1) hC dX3_pairs_61 rfl rfl ?_
          refine G_iload (pc := 62) (i := 10) hC dX3_pairs_62 rfl ?_
          refine G_iald (pc := 64) hC dX3_pairs_64 hw (fun x2 hw => ?_)
          refine G_aload_n (pc := 65) (i := 2) hC dX3_pairs_65 rfl rfl ?_
          refine G_iload (pc := 66) (i := 11) hC dX3_pairs_66 rfl ?_
          refine G_iald (pc := 68) hC dX3_pairs_68 hw (fun x3 hw => ?_)
          refine G_icmp_ne (pc := 69) (tgt := 107) hC dX3_pairs_69 (by decide) (fun hc => ?_) (fun hc => ?_)
          · replace hw := hw.1 hc
            exact g_X3_pairs_107 hJ hC hQ hin ih  v8 v9 v10 v11 M hw
          · replace hw := hw.2 hc
            refine G_aload_n (pc := 72) (i := 0) hC dX3_pairs_72 rfl rfl ?_
            refine G_iload (pc := 73) (i := 10) hC dX3_pairs_73 rfl ?_
            refine G_iconst (pc := 75) (v := 1) hC dX3_pairs_75 (by decide) ?_
            refine G_iadd (pc := 76) hC dX3_pairs_76 ?_
            refine G_iload (pc := 77) (i := 11) hC dX3_pairs_77 rfl ?_
            refine G_iconst (pc := 79) (v := 1) hC dX3_pairs_79 (by decide) ?_
            refine G_iadd (pc := 80) hC dX3_pairs_80 ?_
            obtain ⟨hb, hw⟩ := hw
            refine G_callV (pc := 81) (n := 2) (C := "MergeWorkbenchModel") (b := a0) (As := [.int (v10 + (1 : Int32)), .int (v11 + (1 : Int32))]) (rest := []) hC (m_X3_longestOf hJ hw) (lw_V q3656 q3658 qs63 q108 q3659) hd_X3_longestOf (by decide) (rcv (C := RX3) (T := TX3) (N := 61) hC hb rfl) rfl rfl (st_c cat_e (Nat.le_of_ble_eq_true rfl)) dX3_pairs_81 (kI fun x5 M4 hw => ?_)
            refine G_iload (pc := 84) (i := 9) hC dX3_pairs_84 rfl ?_
            refine G_iconst (pc := 86) (v := 1) hC dX3_pairs_86 (by decide) ?_
            refine G_isub (pc := 87) hC dX3_pairs_87 ?_
            refine G_icmp_ne (pc := 88) (tgt := 107) hC dX3_pairs_88 (by decide) (fun hc => ?_) (fun hc => ?_)
            · replace hw := hw.1 hc
              exact g_X3_pairs_107 hJ hC hQ hin ih  v8 v9 v10 v11 M4 hw
            · replace hw := hw.2 hc
              refine G_aload (pc := 91) (i := 7) hC dX3_pairs_91 rfl ?_
              refine G_iload (pc := 93) (i := 10) hC dX3_pairs_93 rfl ?_
              refine G_iload (pc := 95) (i := 11) hC dX3_pairs_95 rfl ?_
              refine G_iast (pc := 97) hC dX3_pairs_97 hw (fun M6 hw => ?_)
              refine G_iload (pc := 98) (i := 11) hC dX3_pairs_98 rfl ?_
              refine G_iconst (pc := 100) (v := 1) hC dX3_pairs_100 (by decide) ?_
              refine G_iadd (pc := 101) hC dX3_pairs_101 ?_
              refine G_istore (pc := 102) (i := 8) (lw := [some (va_rf (some a0)), some (va_rf p1), some (va_rf p2), some (.int p3), some (.int p4), some (.int p5), some (.int p6), some (va_rf p7), some (.int (v11 + (1 : Int32))), some (.int v9), some (.int v10), some (.int v11)]) hC dX3_pairs_102 (Nat.le_of_ble_eq_true rfl) rfl ?_
              refine G_iinc (pc := 104) (i := 9) (v := (v9 + (-1 : Int32))) (lw := [some (va_rf (some a0)), some (va_rf p1), some (va_rf p2), some (.int p3), some (.int p4), some (.int p5), some (.int p6), some (va_rf p7), some (.int (v11 + (1 : Int32))), some (.int (v9 + (-1 : Int32))), some (.int v10), some (.int v11)]) hC dX3_pairs_104 rfl (Nat.le_of_ble_eq_true rfl) rfl rfl ?_
              exact g_X3_pairs_107 hJ hC hQ hin ih  (v11 + (1 : Int32)) (v9 + (-1 : Int32)) v10 v11 M6 hw
theorem g_X3_pairs_29 {k : kT} {F : Nat} {a0 : Nat} {p1 : Option Nat} {p2 : Option Nat} {p3 : Int32} {p4 : Int32} {p5 : Int32} {p6 : Int32} {p7 : Option Nat} {Q : hM → Prop} (hJ : JOK (kl k) (kg k)) (hC : CX k 12 cX3_pairs RX3 none 3 63) (hQ : isQ k (PU Q)) (hin : (kt k).name = "pairs") : ∀ (n : Nat) (v8 : Int32) (v9 : Int32) (v10 : Int32) (M : hM), w_X3_pairs_29 (kg k) F a0 p1 p2 p3 p4 p5 p6 p7 Q n v8 v9 v10 M → GW k 12 M 29 [some (va_rf (some a0)), some (va_rf p1), some (va_rf p2), some (.int p3), some (.int p4), some (.int p5), some (.int p6), some (va_rf p7), some (.int v8), some (.int v9), some (.int v10), none] [] := by
  intro n
  induction n with
  | zero =>
    intro v8 v9 v10 M hw
    exact hw.elim
  | succ n ih =>
    intro v8 v9 v10 M hw
    refine G_iload (pc := 29) (i := 10) hC dX3_pairs_29 rfl ?_
    refine G_iload (pc := 31) (i := 4) hC dX3_pairs_31 rfl ?_
    refine G_icmp_ge (pc := 33) (tgt := 119) hC dX3_pairs_33 (by decide) (fun hc => ?_) (fun hc => ?_)
    · replace hw := hw.1 hc
      exact G_ret (pc := 119) hC hQ dX3_pairs_119 hw
    · replace hw := hw.2 hc
      refine G_iload (pc := 36) (i := 8) hC dX3_pairs_36 rfl ?_
      refine G_istore (pc := 38) (i := 11) (lw := [some (va_rf (some a0)), some (va_rf p1), some (va_rf p2), some (.int p3), some (.int p4), some (.int p5), some (.int p6), some (va_rf p7), some (.int v8), some (.int v9), some (.int v10), some (.int v8)]) hC dX3_pairs_38 (Nat.le_of_ble_eq_true rfl) rfl ?_
      exact g_X3_pairs_40 hJ hC hQ hin ih _ v8 v9 v10 v8 M hw
theorem m_X3_pairs {l : Launch} {g : gT} {F : Nat} {a0 : Nat} {p1 : Option Nat} {p2 : Option Nat} {p3 : Int32} {p4 : Int32} {p5 : Int32} {p6 : Int32} {p7 : Option Nat} {M : hM} {Q : hM → Prop} (hJ : JOK l g) (hw : w_X3_pairs g F a0 p1 p2 p3 p4 p5 p6 p7 M Q) : MG l g yX3_pairs (ws_ yX3_pairs cX3_pairs 12 none) 3 63 [va_rf (some a0), va_rf p1, va_rf p2, .int p3, .int p4, .int p5, .int p6, va_rf p7] M (PU Q) := by
  refine MG_of hJ.2.1 (by decide) (cat_r (cat_r (cat_r (cat_i (cat_i (cat_i (cat_i (cat_r cat_e)))))))) (Nat.le_of_ble_eq_true rfl) (fun k hl hg hin hQ hC => ?_)
  subst hl hg
  show GW k 12 M 0 [some (va_rf (some a0)), some (va_rf p1), some (va_rf p2), some (.int p3), some (.int p4), some (.int p5), some (.int p6), some (va_rf p7), none, none, none, none] []
  refine G_aload_n (pc := 0) (i := 0) hC dX3_pairs_0 rfl rfl ?_
  refine G_aload_n (pc := 1) (i := 1) hC dX3_pairs_1 rfl rfl ?_
  refine G_aload_n (pc := 2) (i := 2) hC dX3_pairs_2 rfl rfl ?_
  refine G_iload_n (pc := 3) (i := 3) hC dX3_pairs_3 rfl rfl ?_
  refine G_iload (pc := 4) (i := 4) hC dX3_pairs_4 rfl ?_
  refine G_iload (pc := 6) (i := 5) hC dX3_pairs_6 rfl ?_
  refine G_iload (pc := 8) (i := 6) hC dX3_pairs_8 rfl ?_
  obtain ⟨hb, hw⟩ := hw
  refine G_callV (pc := 10) (n := 6) (C := "MergeWorkbenchModel") (b := a0) (As := [va_rf p1, va_rf p2, .int p3, .int p4, .int p5, .int p6]) (rest := []) hC (m_X3_measures hJ hw) (lw_V q3652 q3654 qs62 q108 q3655) hd_X3_measures (by decide) (rcv (C := RX3) (T := TX3) (N := 61) hC hb rfl) rfl rfl (st_c cat_e (Nat.le_of_ble_eq_true rfl)) dX3_pairs_10 (kU fun M1 hw => ?_)
  refine G_iload (pc := 13) (i := 5) hC dX3_pairs_13 rfl ?_
  refine G_istore (pc := 15) (i := 8) (lw := [some (va_rf (some a0)), some (va_rf p1), some (va_rf p2), some (.int p3), some (.int p4), some (.int p5), some (.int p6), some (va_rf p7), some (.int p5), none, none, none]) hC dX3_pairs_15 (Nat.le_of_ble_eq_true rfl) rfl ?_
  refine G_aload_n (pc := 17) (i := 0) hC dX3_pairs_17 rfl rfl ?_
  refine G_iload_n (pc := 18) (i := 3) hC dX3_pairs_18 rfl rfl ?_
  refine G_iload (pc := 19) (i := 5) hC dX3_pairs_19 rfl ?_
  obtain ⟨hb, hw⟩ := hw
  refine G_callV (pc := 21) (n := 2) (C := "MergeWorkbenchModel") (b := a0) (As := [.int p3, .int p5]) (rest := []) hC (m_X3_longestOf hJ hw) (lw_V q3656 q3658 qs63 q108 q3659) hd_X3_longestOf (by decide) (rcv (C := RX3) (T := TX3) (N := 61) hC hb rfl) rfl rfl (st_c cat_e (Nat.le_of_ble_eq_true rfl)) dX3_pairs_21 (kI fun x3 M2 hw => ?_)
  refine G_istore (pc := 24) (i := 9) (lw := [some (va_rf (some a0)), some (va_rf p1), some (va_rf p2), some (.int p3), some (.int p4), some (.int p5), some (.int p6), some (va_rf p7), some (.int p5), some (.int x3), none, none]) hC dX3_pairs_24 (Nat.le_of_ble_eq_true rfl) rfl ?_
  refine G_iload_n (pc := 26) (i := 3) hC dX3_pairs_26 rfl rfl ?_
  refine G_istore (pc := 27) (i := 10) (lw := [some (va_rf (some a0)), some (va_rf p1), some (va_rf p2), some (.int p3), some (.int p4), some (.int p5), some (.int p6), some (va_rf p7), some (.int p5), some (.int x3), some (.int p3), none]) hC dX3_pairs_27 (Nat.le_of_ble_eq_true rfl) rfl ?_
  exact g_X3_pairs_29 hJ hC hQ hin _ p5 x3 p3 M2 hw
theorem hd_X3_pairs : yX3_pairs.cls = "MergeWorkbenchModel" ∧ yX3_pairs.cls ≠ "java/lang/invoke/MethodHandle" ∧ yX3_pairs.cls ≠ "java/lang/invoke/VarHandle" ∧ (parseMethodDescriptor yX3_pairs.desc).map (fun d => d.parameters.length) = some 7 := by decide +kernel
theorem hd_X3_tellCandidates : yX3_tellCandidates.cls = "MergeWorkbenchModel" ∧ yX3_tellCandidates.cls ≠ "java/lang/invoke/MethodHandle" ∧ yX3_tellCandidates.cls ≠ "java/lang/invoke/VarHandle" ∧ (parseMethodDescriptor yX3_tellCandidates.desc).map (fun d => d.parameters.length) = some 4 := by decide +kernel
def w_X3_aligns_189 (g : gT) (F : Nat) (a0 : Nat) (p1 : Option Nat) (p2 : Int32) (p3 : Option Nat) (p4 : Int32) (p5 : Option Nat) (Q : hM → Prop) (v6 : Int32) (v7 : Int32) (M : hM) : Prop :=
  (isC M a0 2 ∧ w_X3_pairs g F a0 p1 p3 v6 p2 v7 p4 p5 M (fun M1 => Q M1))
def w_X3_aligns_183 (g : gT) (F : Nat) (a0 : Nat) (p1 : Option Nat) (p2 : Int32) (p3 : Option Nat) (p4 : Int32) (p5 : Option Nat) (Q : hM → Prop) (K85 : Int32 → Int32 → Int32 → Int32 → hM → Prop) (v6 : Int32) (v7 : Int32) (v8 : Int32) (v9 : Int32) (M : hM) : Prop :=
  K85 v6 v7 v8 (v9 + (1 : Int32)) M
def w_X3_aligns_85 (g : gT) (F : Nat) (a0 : Nat) (p1 : Option Nat) (p2 : Int32) (p3 : Option Nat) (p4 : Int32) (p5 : Option Nat) (Q : hM → Prop) : Nat → Int32 → Int32 → Int32 → Int32 → hM → Prop
  | 0, _, _, _, _, _ => False
  | n + 1, v6, v7, v8, v9, M => ((p2 ≤ v9 → w_X3_aligns_189 g F a0 p1 p2 p3 p4 p5 Q v6 v7 M) ∧ (¬ (p2 ≤ v9) → ((v8 ≤ 0 → w_X3_aligns_183 g F a0 p1 p2 p3 p4 p5 Q (fun v6 v7 v8 v9 M => w_X3_aligns_85 g F a0 p1 p2 p3 p4 p5 Q n v6 v7 v8 v9 M) v6 v7 v8 v9 M) ∧ (¬ (v8 ≤ 0) → gF M (some a0) 2 21 fun x1 => aI M x1 0 v9 fun x2 => ((¬ x2 = v8 → w_X3_aligns_183 g F a0 p1 p2 p3 p4 p5 Q (fun v6 v7 v8 v9 M => w_X3_aligns_85 g F a0 p1 p2 p3 p4 p5 Q n v6 v7 v8 v9 M) v6 v7 v8 v9 M) ∧ (x2 = v8 → gF M (some a0) 2 20 fun x3 => aI M x3 0 v9 fun x4 => ((x4 < v7 → w_X3_aligns_183 g F a0 p1 p2 p3 p4 p5 Q (fun v6 v7 v8 v9 M => w_X3_aligns_85 g F a0 p1 p2 p3 p4 p5 Q n v6 v7 v8 v9 M) v6 v7 v8 v9 M) ∧ (¬ (x4 < v7) → gF M (some a0) 2 20 fun x5 => aI M x5 0 v9 fun x6 => (isC M a0 2 ∧ w_X3_pairs g F a0 p1 p3 v6 v9 v7 x6 p5 M (fun M7 => gF M7 (some a0) 2 20 fun x8 => aI M7 x8 0 v9 fun x9 => sI M7 p5 0 v9 x9 fun M10 => gF M10 (some a0) 2 20 fun x11 => aI M10 x11 0 v9 fun x12 => gI M10 (some a0) 2 22 fun x13 => pV M10 (some a0) 2 22 (.int (x13 + (1 : Int32))) fun M14 => w_X3_aligns_183 g F a0 p1 p2 p3 p4 p5 Q (fun v6 v7 v8 v9 M => w_X3_aligns_85 g F a0 p1 p2 p3 p4 p5 Q n v6 v7 v8 v9 M) (v9 + (1 : Int32)) (x12 + (1 : Int32)) (v8 + (-1 : Int32)) v9 M14))))))))))
def w_X3_aligns_56 (g : gT) (F : Nat) (a0 : Nat) (p1 : Option Nat) (p2 : Int32) (p3 : Option Nat) (p4 : Int32) (p5 : Option Nat) (Q : hM → Prop) : Nat → Int32 → Int32 → Int32 → Int32 → hM → Prop
  | 0, _, _, _, _, _ => False
  | n + 1, v6, v7, v8, v9, M => ((p2 ≤ v9 → w_X3_aligns_85 g F a0 p1 p2 p3 p4 p5 Q F v6 v7 v8 (0 : Int32) M) ∧ (¬ (p2 ≤ v9) → gF M (some a0) 2 21 fun x1 => aI M x1 0 v9 fun x2 => w_X3_most g F v8 x2 M (fun x4 M3 => w_X3_aligns_56 g F a0 p1 p2 p3 p4 p5 Q n v6 v7 x4 (v9 + (1 : Int32)) M3)))
def w_X3_aligns_3 (g : gT) (F : Nat) (a0 : Nat) (p1 : Option Nat) (p2 : Int32) (p3 : Option Nat) (p4 : Int32) (p5 : Option Nat) (Q : hM → Prop) : Nat → Int32 → hM → Prop
  | 0, _, _ => False
  | n + 1, v6, M => (((24 : Int32) ≤ v6 → pV M (some a0) 2 22 (.int (0 : Int32)) fun M1 => gI M1 (some a0) 2 3 fun x2 => ((¬ x2 = (1 : Int32) → w_X3_aligns_189 g F a0 p1 p2 p3 p4 p5 Q (0 : Int32) (0 : Int32) M1) ∧ (x2 = (1 : Int32) → (isC M1 a0 2 ∧ w_X3_tellCandidates g F a0 p1 p2 p3 p4 M1 (fun M3 => w_X3_aligns_56 g F a0 p1 p2 p3 p4 p5 Q F (0 : Int32) (0 : Int32) (0 : Int32) (0 : Int32) M3))))) ∧ (¬ ((24 : Int32) ≤ v6) → sI M p5 0 v6 (-1 : Int32) fun M4 => w_X3_aligns_3 g F a0 p1 p2 p3 p4 p5 Q n (v6 + (1 : Int32)) M4))
def w_X3_aligns (g : gT) (F : Nat) (a0 : Nat) (p1 : Option Nat) (p2 : Int32) (p3 : Option Nat) (p4 : Int32) (p5 : Option Nat) (M : hM) (Q : hM → Prop) : Prop :=
  w_X3_aligns_3 g F a0 p1 p2 p3 p4 p5 Q F (0 : Int32) M
theorem g_X3_aligns_189 {k : kT} {F : Nat} {a0 : Nat} {p1 : Option Nat} {p2 : Int32} {p3 : Option Nat} {p4 : Int32} {p5 : Option Nat} {Q : hM → Prop} (hJ : JOK (kl k) (kg k)) (hC : CX k 10 cX3_aligns RX3 none 4 94) (hQ : isQ k (PU Q)) (hin : (kt k).name = "aligns") : ∀ (v6 : Int32) (v7 : Int32) (M : hM), w_X3_aligns_189 (kg k) F a0 p1 p2 p3 p4 p5 Q v6 v7 M → GW k 10 M 189 [some (va_rf (some a0)), some (va_rf p1), some (.int p2), some (va_rf p3), some (.int p4), some (va_rf p5), some (.int v6), some (.int v7), none, none] [] := by
  intro v6 v7 M hw
  refine G_aload_n (pc := 189) (i := 0) hC dX3_aligns_189 rfl rfl ?_
  refine G_aload_n (pc := 190) (i := 1) hC dX3_aligns_190 rfl rfl ?_
  refine G_aload_n (pc := 191) (i := 3) hC dX3_aligns_191 rfl rfl ?_
  refine G_iload (pc := 192) (i := 6) hC dX3_aligns_192 rfl ?_
  refine G_iload_n (pc := 194) (i := 2) hC dX3_aligns_194 rfl rfl ?_
  refine G_iload (pc := 195) (i := 7) hC dX3_aligns_195 rfl ?_
  refine G_iload (pc := 197) (i := 4) hC dX3_aligns_197 rfl ?_
  refine G_aload (pc := 199) (i := 5) hC dX3_aligns_199 rfl ?_
  obtain ⟨hb, hw⟩ := hw
  refine G_callV (pc := 201) (n := 7) (C := "MergeWorkbenchModel") (b := a0) (As := [va_rf p1, va_rf p3, .int v6, .int p2, .int v7, .int p4, va_rf p5]) (rest := []) hC (m_X3_pairs hJ hw) (lw_V q3682 q3684 qs66 q108 q3685) hd_X3_pairs (by decide) (rcv (C := RX3) (T := TX3) (N := 61) hC hb rfl) rfl rfl (st_c cat_e (Nat.le_of_ble_eq_true rfl)) dX3_aligns_201 (kU fun M1 hw => ?_)
  exact G_ret (pc := 204) hC hQ dX3_aligns_204 hw
theorem g_X3_aligns_183 {k : kT} {F : Nat} {a0 : Nat} {p1 : Option Nat} {p2 : Int32} {p3 : Option Nat} {p4 : Int32} {p5 : Option Nat} {Q : hM → Prop} {K85 : Int32 → Int32 → Int32 → Int32 → hM → Prop} (hJ : JOK (kl k) (kg k)) (hC : CX k 10 cX3_aligns RX3 none 4 94) (hQ : isQ k (PU Q)) (hin : (kt k).name = "aligns") (hK85 : ∀ (v6 : Int32) (v7 : Int32) (v8 : Int32) (v9 : Int32) (M : hM), K85 v6 v7 v8 v9 M → GW k 10 M 85 [some (va_rf (some a0)), some (va_rf p1), some (.int p2), some (va_rf p3), some (.int p4), some (va_rf p5), some (.int v6), some (.int v7), some (.int v8), some (.int v9)] []) : ∀ (v6 : Int32) (v7 : Int32) (v8 : Int32) (v9 : Int32) (M : hM), w_X3_aligns_183 (kg k) F a0 p1 p2 p3 p4 p5 Q K85 v6 v7 v8 v9 M → GW k 10 M 183 [some (va_rf (some a0)), some (va_rf p1), some (.int p2), some (va_rf p3), some (.int p4), some (va_rf p5), some (.int v6), some (.int v7), some (.int v8), some (.int v9)] [] := by
  intro v6 v7 v8 v9 M hw
  refine G_iinc (pc := 183) (i := 9) (v := (v9 + (1 : Int32))) (lw := [some (va_rf (some a0)), some (va_rf p1), some (.int p2), some (va_rf p3), some (.int p4), some (va_rf p5), some (.int v6), some (.int v7), some (.int v8), some (.int (v9 + (1 : Int32)))]) hC dX3_aligns_183 rfl (Nat.le_of_ble_eq_true rfl) rfl rfl ?_
  refine G_goto (pc := 186) (tgt := 85) hC dX3_aligns_186 (by decide) ?_
  exact hK85 v6 v7 v8 (v9 + (1 : Int32)) M hw
theorem g_X3_aligns_85 {k : kT} {F : Nat} {a0 : Nat} {p1 : Option Nat} {p2 : Int32} {p3 : Option Nat} {p4 : Int32} {p5 : Option Nat} {Q : hM → Prop} (hJ : JOK (kl k) (kg k)) (hC : CX k 10 cX3_aligns RX3 none 4 94) (hQ : isQ k (PU Q)) (hin : (kt k).name = "aligns") : ∀ (n : Nat) (v6 : Int32) (v7 : Int32) (v8 : Int32) (v9 : Int32) (M : hM), w_X3_aligns_85 (kg k) F a0 p1 p2 p3 p4 p5 Q n v6 v7 v8 v9 M → GW k 10 M 85 [some (va_rf (some a0)), some (va_rf p1), some (.int p2), some (va_rf p3), some (.int p4), some (va_rf p5), some (.int v6), some (.int v7), some (.int v8), some (.int v9)] [] := by
  intro n
  induction n with
  | zero =>
    intro v6 v7 v8 v9 M hw
    exact hw.elim
  | succ n ih =>
    intro v6 v7 v8 v9 M hw
    refine G_iload (pc := 85) (i := 9) hC dX3_aligns_85 rfl ?_
    refine G_iload_n (pc := 87) (i := 2) hC dX3_aligns_87 rfl rfl ?_
    refine G_icmp_ge (pc := 88) (tgt := 189) hC dX3_aligns_88 (by decide) (fun hc => ?_) (fun hc => ?_)
    · replace hw := hw.1 hc
      refine G_loc (lv' := [some (va_rf (some a0)), some (va_rf p1), some (.int p2), some (va_rf p3), some (.int p4), some (va_rf p5), some (.int v6), some (.int v7), none, none]) ⟨Or.inr rfl, Or.inr rfl, Or.inr rfl, Or.inr rfl, Or.inr rfl, Or.inr rfl, Or.inr rfl, Or.inr rfl, Or.inl rfl, Or.inl rfl, trivial⟩ ?_
      exact g_X3_aligns_189 hJ hC hQ hin  v6 v7 M hw
    · replace hw := hw.2 hc
      refine G_iload (pc := 91) (i := 8) hC dX3_aligns_91 rfl ?_
      refine G_if_le (pc := 93) (tgt := 183) hC dX3_aligns_93 (by decide) (fun hc => ?_) (fun hc => ?_)
      · replace hw := hw.1 hc
        exact g_X3_aligns_183 hJ hC hQ hin ih  v6 v7 v8 v9 M hw
      · replace hw := hw.2 hc
        refine G_aload_n (pc := 96) (i := 0) hC dX3_aligns_96 rfl rfl ?_
        refine G_getF (pc := 97) (ci := 2) (C := RX3) (T := TX3) (N := 61) (f := 21) hC rfl in_X3 (Nat.le_of_ble_eq_true rfl) q3395 (fun _ h => h) dX3_aligns_97 hw (fun x1 hw => ?_)
        refine G_iload (pc := 100) (i := 9) hC dX3_aligns_100 rfl ?_
        refine G_iald (pc := 102) hC dX3_aligns_102 hw (fun x2 hw => ?_)
        refine G_iload (pc := 103) (i := 8) hC dX3_aligns_103 rfl ?_
        refine G_icmp_ne (pc := 105) (tgt := 183) hC dX3_aligns_105 (by decide) (fun hc => ?_) (fun hc => ?_)
        · replace hw := hw.1 hc
          exact g_X3_aligns_183 hJ hC hQ hin ih  v6 v7 v8 v9 M hw
        · replace hw := hw.2 hc
          refine G_aload_n (pc := 108) (i := 0) hC dX3_aligns_108 rfl rfl ?_
          refine G_getF (pc := 109) (ci := 2) (C := RX3) (T := TX3) (N := 61) (f := 20) hC rfl in_X3 (Nat.le_of_ble_eq_true rfl) q3394 (fun _ h => h) dX3_aligns_109 hw (fun x3 hw => ?_)
          refine G_iload (pc := 112) (i := 9) hC dX3_aligns_112 rfl ?_
          refine G_iald (pc := 114) hC dX3_aligns_114 hw (fun x4 hw => ?_)
          refine G_iload (pc := 115) (i := 7) hC dX3_aligns_115 rfl ?_
          refine G_icmp_lt (pc := 117) (tgt := 183) hC dX3_aligns_117 (by decide) (fun hc => ?_) (fun hc => ?_)
          · replace hw := hw.1 hc
            exact g_X3_aligns_183 hJ hC hQ hin ih  v6 v7 v8 v9 M hw
          · replace hw := hw.2 hc
            refine G_aload_n (pc := 120) (i := 0) hC dX3_aligns_120 rfl rfl ?_
            refine G_aload_n (pc := 121) (i := 1) hC dX3_aligns_121 rfl rfl ?_
            refine G_aload_n (pc := 122) (i := 3) hC dX3_aligns_122 rfl rfl ?_
            refine G_iload (pc := 123) (i := 6) hC dX3_aligns_123 rfl ?_
            refine G_iload (pc := 125) (i := 9) hC dX3_aligns_125 rfl ?_
            refine G_iload (pc := 127) (i := 7) hC dX3_aligns_127 rfl ?_
            refine G_aload_n (pc := 129) (i := 0) hC dX3_aligns_129 rfl rfl ?_
            refine G_getF (pc := 130) (ci := 2) (C := RX3) (T := TX3) (N := 61) (f := 20) hC rfl in_X3 (Nat.le_of_ble_eq_true rfl) q3394 (fun _ h => h) dX3_aligns_130 hw (fun x5 hw => ?_)
            refine G_iload (pc := 133) (i := 9) hC dX3_aligns_133 rfl ?_
            refine G_iald (pc := 135) hC dX3_aligns_135 hw (fun x6 hw => ?_)
            refine G_aload (pc := 136) (i := 5) hC dX3_aligns_136 rfl ?_
            obtain ⟨hb, hw⟩ := hw
            refine G_callV (pc := 138) (n := 7) (C := "MergeWorkbenchModel") (b := a0) (As := [va_rf p1, va_rf p3, .int v6, .int v9, .int v7, .int x6, va_rf p5]) (rest := []) hC (m_X3_pairs hJ hw) (lw_V q3682 q3684 qs66 q108 q3685) hd_X3_pairs (by decide) (rcv (C := RX3) (T := TX3) (N := 61) hC hb rfl) rfl rfl (st_c cat_e (Nat.le_of_ble_eq_true rfl)) dX3_aligns_138 (kU fun M7 hw => ?_)
            refine G_aload (pc := 141) (i := 5) hC dX3_aligns_141 rfl ?_
            refine G_iload (pc := 143) (i := 9) hC dX3_aligns_143 rfl ?_
            refine G_aload_n (pc := 145) (i := 0) hC dX3_aligns_145 rfl rfl ?_
            refine G_getF (pc := 146) (ci := 2) (C := RX3) (T := TX3) (N := 61) (f := 20) hC rfl in_X3 (Nat.le_of_ble_eq_true rfl) q3394 (fun _ h => h) dX3_aligns_146 hw (fun x8 hw => ?_)
            refine G_iload (pc := 149) (i := 9) hC dX3_aligns_149 rfl ?_
            refine G_iald (pc := 151) hC dX3_aligns_151 hw (fun x9 hw => ?_)
            refine G_iast (pc := 152) hC dX3_aligns_152 hw (fun M10 hw => ?_)
            refine G_iload (pc := 153) (i := 9) hC dX3_aligns_153 rfl ?_
            refine G_iconst (pc := 155) (v := 1) hC dX3_aligns_155 (by decide) ?_
            refine G_iadd (pc := 156) hC dX3_aligns_156 ?_
            refine G_istore (pc := 157) (i := 6) (lw := [some (va_rf (some a0)), some (va_rf p1), some (.int p2), some (va_rf p3), some (.int p4), some (va_rf p5), some (.int (v9 + (1 : Int32))), some (.int v7), some (.int v8), some (.int v9)]) hC dX3_aligns_157 (Nat.le_of_ble_eq_true rfl) rfl ?_
            refine G_aload_n (pc := 159) (i := 0) hC dX3_aligns_159 rfl rfl ?_
            refine G_getF (pc := 160) (ci := 2) (C := RX3) (T := TX3) (N := 61) (f := 20) hC rfl in_X3 (Nat.le_of_ble_eq_true rfl) q3394 (fun _ h => h) dX3_aligns_160 hw (fun x11 hw => ?_)
            refine G_iload (pc := 163) (i := 9) hC dX3_aligns_163 rfl ?_
            refine G_iald (pc := 165) hC dX3_aligns_165 hw (fun x12 hw => ?_)
            refine G_iconst (pc := 166) (v := 1) hC dX3_aligns_166 (by decide) ?_
            refine G_iadd (pc := 167) hC dX3_aligns_167 ?_
            refine G_istore (pc := 168) (i := 7) (lw := [some (va_rf (some a0)), some (va_rf p1), some (.int p2), some (va_rf p3), some (.int p4), some (va_rf p5), some (.int (v9 + (1 : Int32))), some (.int (x12 + (1 : Int32))), some (.int v8), some (.int v9)]) hC dX3_aligns_168 (Nat.le_of_ble_eq_true rfl) rfl ?_
            refine G_iinc (pc := 170) (i := 8) (v := (v8 + (-1 : Int32))) (lw := [some (va_rf (some a0)), some (va_rf p1), some (.int p2), some (va_rf p3), some (.int p4), some (va_rf p5), some (.int (v9 + (1 : Int32))), some (.int (x12 + (1 : Int32))), some (.int (v8 + (-1 : Int32))), some (.int v9)]) hC dX3_aligns_170 rfl (Nat.le_of_ble_eq_true rfl) rfl rfl ?_
            refine G_aload_n (pc := 173) (i := 0) hC dX3_aligns_173 rfl rfl ?_
            refine G_dup (pc := 174) hC dX3_aligns_174 (rf_cat _) ?_
            refine G_getI (pc := 175) (ci := 2) (C := RX3) (T := TX3) (N := 61) (f := 22) hC rfl in_X3 (Nat.le_of_ble_eq_true rfl) q3396 (fun _ h => h) dX3_aligns_175 hw (fun x13 hw => ?_)
            refine G_iconst (pc := 178) (v := 1) hC dX3_aligns_178 (by decide) ?_
            refine G_iadd (pc := 179) hC dX3_aligns_179 ?_
            refine G_put (pc := 180) (ci := 2) (C := RX3) (T := TX3) (N := 61) (f := 22) tyX3 hC rfl in_X3 tyX3_ok nmX3 (Nat.le_of_ble_eq_true rfl) q3396 (fun _ h => h) rfl rfl rfl dX3_aligns_180 hw (fun M14 hw => ?_)
            exact g_X3_aligns_183 hJ hC hQ hin ih  (v9 + (1 : Int32)) (x12 + (1 : Int32)) (v8 + (-1 : Int32)) v9 M14 hw
theorem g_X3_aligns_56 {k : kT} {F : Nat} {a0 : Nat} {p1 : Option Nat} {p2 : Int32} {p3 : Option Nat} {p4 : Int32} {p5 : Option Nat} {Q : hM → Prop} (hJ : JOK (kl k) (kg k)) (hC : CX k 10 cX3_aligns RX3 none 4 94) (hQ : isQ k (PU Q)) (hin : (kt k).name = "aligns") : ∀ (n : Nat) (v6 : Int32) (v7 : Int32) (v8 : Int32) (v9 : Int32) (M : hM), w_X3_aligns_56 (kg k) F a0 p1 p2 p3 p4 p5 Q n v6 v7 v8 v9 M → GW k 10 M 56 [some (va_rf (some a0)), some (va_rf p1), some (.int p2), some (va_rf p3), some (.int p4), some (va_rf p5), some (.int v6), some (.int v7), some (.int v8), some (.int v9)] [] := by
  intro n
  induction n with
  | zero =>
    intro v6 v7 v8 v9 M hw
    exact hw.elim
  | succ n ih =>
    intro v6 v7 v8 v9 M hw
    refine G_iload (pc := 56) (i := 9) hC dX3_aligns_56 rfl ?_
    refine G_iload_n (pc := 58) (i := 2) hC dX3_aligns_58 rfl rfl ?_
    refine G_icmp_ge (pc := 59) (tgt := 82) hC dX3_aligns_59 (by decide) (fun hc => ?_) (fun hc => ?_)
    · replace hw := hw.1 hc
      refine G_iconst (pc := 82) (v := 0) hC dX3_aligns_82 (by decide) ?_
      refine G_istore (pc := 83) (i := 9) (lw := [some (va_rf (some a0)), some (va_rf p1), some (.int p2), some (va_rf p3), some (.int p4), some (va_rf p5), some (.int v6), some (.int v7), some (.int v8), some (.int (0 : Int32))]) hC dX3_aligns_83 (Nat.le_of_ble_eq_true rfl) rfl ?_
      exact g_X3_aligns_85 hJ hC hQ hin _ v6 v7 v8 (0 : Int32) M hw
    · replace hw := hw.2 hc
      refine G_iload (pc := 62) (i := 8) hC dX3_aligns_62 rfl ?_
      refine G_aload_n (pc := 64) (i := 0) hC dX3_aligns_64 rfl rfl ?_
      refine G_getF (pc := 65) (ci := 2) (C := RX3) (T := TX3) (N := 61) (f := 21) hC rfl in_X3 (Nat.le_of_ble_eq_true rfl) q3395 (fun _ h => h) dX3_aligns_65 hw (fun x1 hw => ?_)
      refine G_iload (pc := 68) (i := 9) hC dX3_aligns_68 rfl ?_
      refine G_iald (pc := 70) hC dX3_aligns_70 hw (fun x2 hw => ?_)
      refine G_callS (pc := 71) (n := 2) (As := [.int v8, .int x2]) (rest := []) hC (m_X3_most hJ hw) (lw_S q3660 q3661 q108 q3662) hd_X3_most.2 (by decide) rfl rfl (st_c cat_e (Nat.le_of_ble_eq_true rfl)) dX3_aligns_71 (kI fun x4 M3 hw => ?_)
      refine G_istore (pc := 74) (i := 8) (lw := [some (va_rf (some a0)), some (va_rf p1), some (.int p2), some (va_rf p3), some (.int p4), some (va_rf p5), some (.int v6), some (.int v7), some (.int x4), some (.int v9)]) hC dX3_aligns_74 (Nat.le_of_ble_eq_true rfl) rfl ?_
      refine G_iinc (pc := 76) (i := 9) (v := (v9 + (1 : Int32))) (lw := [some (va_rf (some a0)), some (va_rf p1), some (.int p2), some (va_rf p3), some (.int p4), some (va_rf p5), some (.int v6), some (.int v7), some (.int x4), some (.int (v9 + (1 : Int32)))]) hC dX3_aligns_76 rfl (Nat.le_of_ble_eq_true rfl) rfl rfl ?_
      refine G_goto (pc := 79) (tgt := 56) hC dX3_aligns_79 (by decide) ?_
      exact ih v6 v7 x4 (v9 + (1 : Int32)) M3 hw
theorem g_X3_aligns_3 {k : kT} {F : Nat} {a0 : Nat} {p1 : Option Nat} {p2 : Int32} {p3 : Option Nat} {p4 : Int32} {p5 : Option Nat} {Q : hM → Prop} (hJ : JOK (kl k) (kg k)) (hC : CX k 10 cX3_aligns RX3 none 4 94) (hQ : isQ k (PU Q)) (hin : (kt k).name = "aligns") : ∀ (n : Nat) (v6 : Int32) (M : hM), w_X3_aligns_3 (kg k) F a0 p1 p2 p3 p4 p5 Q n v6 M → GW k 10 M 3 [some (va_rf (some a0)), some (va_rf p1), some (.int p2), some (va_rf p3), some (.int p4), some (va_rf p5), some (.int v6), none, none, none] [] := by
  intro n
  induction n with
  | zero =>
    intro v6 M hw
    exact hw.elim
  | succ n ih =>
    intro v6 M hw
    refine G_iload (pc := 3) (i := 6) hC dX3_aligns_3 rfl ?_
    refine G_bipush (pc := 5) (v := 24) hC dX3_aligns_5 (by decide) ?_
    refine G_icmp_ge (pc := 7) (tgt := 22) hC dX3_aligns_7 (by decide) (fun hc => ?_) (fun hc => ?_)
    · replace hw := hw.1 hc
      refine G_aload_n (pc := 22) (i := 0) hC dX3_aligns_22 rfl rfl ?_
      refine G_iconst (pc := 23) (v := 0) hC dX3_aligns_23 (by decide) ?_
      refine G_put (pc := 24) (ci := 2) (C := RX3) (T := TX3) (N := 61) (f := 22) tyX3 hC rfl in_X3 tyX3_ok nmX3 (Nat.le_of_ble_eq_true rfl) q3396 (fun _ h => h) rfl rfl rfl dX3_aligns_24 hw (fun M1 hw => ?_)
      refine G_iconst (pc := 27) (v := 0) hC dX3_aligns_27 (by decide) ?_
      refine G_istore (pc := 28) (i := 6) (lw := [some (va_rf (some a0)), some (va_rf p1), some (.int p2), some (va_rf p3), some (.int p4), some (va_rf p5), some (.int (0 : Int32)), none, none, none]) hC dX3_aligns_28 (Nat.le_of_ble_eq_true rfl) rfl ?_
      refine G_iconst (pc := 30) (v := 0) hC dX3_aligns_30 (by decide) ?_
      refine G_istore (pc := 31) (i := 7) (lw := [some (va_rf (some a0)), some (va_rf p1), some (.int p2), some (va_rf p3), some (.int p4), some (va_rf p5), some (.int (0 : Int32)), some (.int (0 : Int32)), none, none]) hC dX3_aligns_31 (Nat.le_of_ble_eq_true rfl) rfl ?_
      refine G_aload_n (pc := 33) (i := 0) hC dX3_aligns_33 rfl rfl ?_
      refine G_getI (pc := 34) (ci := 2) (C := RX3) (T := TX3) (N := 61) (f := 3) hC rfl in_X3 (Nat.le_of_ble_eq_true rfl) q3377 (fun _ h => h) dX3_aligns_34 hw (fun x2 hw => ?_)
      refine G_iconst (pc := 37) (v := 1) hC dX3_aligns_37 (by decide) ?_
      refine G_icmp_ne (pc := 38) (tgt := 189) hC dX3_aligns_38 (by decide) (fun hc => ?_) (fun hc => ?_)
      · replace hw := hw.1 hc
        exact g_X3_aligns_189 hJ hC hQ hin  (0 : Int32) (0 : Int32) M1 hw
      · replace hw := hw.2 hc
        refine G_aload_n (pc := 41) (i := 0) hC dX3_aligns_41 rfl rfl ?_
        refine G_aload_n (pc := 42) (i := 1) hC dX3_aligns_42 rfl rfl ?_
        refine G_iload_n (pc := 43) (i := 2) hC dX3_aligns_43 rfl rfl ?_
        refine G_aload_n (pc := 44) (i := 3) hC dX3_aligns_44 rfl rfl ?_
        refine G_iload (pc := 45) (i := 4) hC dX3_aligns_45 rfl ?_
        obtain ⟨hb, hw⟩ := hw
        refine G_callV (pc := 47) (n := 4) (C := "MergeWorkbenchModel") (b := a0) (As := [va_rf p1, .int p2, va_rf p3, .int p4]) (rest := []) hC (m_X3_tellCandidates hJ hw) (lw_V q3675 q3677 qs65 q108 q3678) hd_X3_tellCandidates (by decide) (rcv (C := RX3) (T := TX3) (N := 61) hC hb rfl) rfl rfl (st_c cat_e (Nat.le_of_ble_eq_true rfl)) dX3_aligns_47 (kU fun M3 hw => ?_)
        refine G_iconst (pc := 50) (v := 0) hC dX3_aligns_50 (by decide) ?_
        refine G_istore (pc := 51) (i := 8) (lw := [some (va_rf (some a0)), some (va_rf p1), some (.int p2), some (va_rf p3), some (.int p4), some (va_rf p5), some (.int (0 : Int32)), some (.int (0 : Int32)), some (.int (0 : Int32)), none]) hC dX3_aligns_51 (Nat.le_of_ble_eq_true rfl) rfl ?_
        refine G_iconst (pc := 53) (v := 0) hC dX3_aligns_53 (by decide) ?_
        refine G_istore (pc := 54) (i := 9) (lw := [some (va_rf (some a0)), some (va_rf p1), some (.int p2), some (va_rf p3), some (.int p4), some (va_rf p5), some (.int (0 : Int32)), some (.int (0 : Int32)), some (.int (0 : Int32)), some (.int (0 : Int32))]) hC dX3_aligns_54 (Nat.le_of_ble_eq_true rfl) rfl ?_
        exact g_X3_aligns_56 hJ hC hQ hin _ (0 : Int32) (0 : Int32) (0 : Int32) (0 : Int32) M3 hw
    · replace hw := hw.2 hc
      refine G_aload (pc := 10) (i := 5) hC dX3_aligns_10 rfl ?_
      refine G_iload (pc := 12) (i := 6) hC dX3_aligns_12 rfl ?_
      refine G_iconst (pc := 14) (v := -1) hC dX3_aligns_14 (by decide) ?_
      refine G_iast (pc := 15) hC dX3_aligns_15 hw (fun M4 hw => ?_)
      refine G_iinc (pc := 16) (i := 6) (v := (v6 + (1 : Int32))) (lw := [some (va_rf (some a0)), some (va_rf p1), some (.int p2), some (va_rf p3), some (.int p4), some (va_rf p5), some (.int (v6 + (1 : Int32))), none, none, none]) hC dX3_aligns_16 rfl (Nat.le_of_ble_eq_true rfl) rfl rfl ?_
      refine G_goto (pc := 19) (tgt := 3) hC dX3_aligns_19 (by decide) ?_
      exact ih (v6 + (1 : Int32)) M4 hw
theorem m_X3_aligns {l : Launch} {g : gT} {F : Nat} {a0 : Nat} {p1 : Option Nat} {p2 : Int32} {p3 : Option Nat} {p4 : Int32} {p5 : Option Nat} {M : hM} {Q : hM → Prop} (hJ : JOK l g) (hw : w_X3_aligns g F a0 p1 p2 p3 p4 p5 M Q) : MG l g yX3_aligns (ws_ yX3_aligns cX3_aligns 10 none) 4 94 [va_rf (some a0), va_rf p1, .int p2, va_rf p3, .int p4, va_rf p5] M (PU Q) := by
  refine MG_of hJ.2.1 (by decide) (cat_r (cat_r (cat_i (cat_r (cat_i (cat_r cat_e)))))) (Nat.le_of_ble_eq_true rfl) (fun k hl hg hin hQ hC => ?_)
  subst hl hg
  show GW k 10 M 0 [some (va_rf (some a0)), some (va_rf p1), some (.int p2), some (va_rf p3), some (.int p4), some (va_rf p5), none, none, none, none] []
  refine G_iconst (pc := 0) (v := 0) hC dX3_aligns_0 (by decide) ?_
  refine G_istore (pc := 1) (i := 6) (lw := [some (va_rf (some a0)), some (va_rf p1), some (.int p2), some (va_rf p3), some (.int p4), some (va_rf p5), some (.int (0 : Int32)), none, none, none]) hC dX3_aligns_1 (Nat.le_of_ble_eq_true rfl) rfl ?_
  exact g_X3_aligns_3 hJ hC hQ hin _ (0 : Int32) M hw
def w_X3_tellParts_153 (g : gT) (F : Nat) (a0 : Nat) (Q : hM → Prop) (K11 : Int32 → Int32 → Int32 → hM → Prop) (v1 : Int32) (v2 : Int32) (v3 : Int32) (M : hM) : Prop :=
  K11 v1 v2 (v3 + (1 : Int32)) M
def w_X3_tellParts_144 (g : gT) (F : Nat) (a0 : Nat) (Q : hM → Prop) (K11 : Int32 → Int32 → Int32 → hM → Prop) (v3 : Int32) (v5 : Int32) (M : hM) : Prop :=
  w_X3_tellParts_153 g F a0 Q K11 (v3 + (1 : Int32)) (v5 + (1 : Int32)) v3 M
def w_X3_tellParts_79 (g : gT) (F : Nat) (a0 : Nat) (Q : hM → Prop) (K11 : Int32 → Int32 → Int32 → hM → Prop) (v1 : Int32) (v2 : Int32) (v3 : Int32) (v5 : Int32) (M : hM) : Prop :=
  gF M (some a0) 2 34 fun x1 => gI M (some a0) 2 35 fun x2 => sI M x1 0 ((4 : Int32) * x2) v1 fun M3 => gF M3 (some a0) 2 34 fun x4 => gI M3 (some a0) 2 35 fun x5 => sI M3 x4 0 (((4 : Int32) * x5) + (1 : Int32)) v3 fun M6 => gF M6 (some a0) 2 34 fun x7 => gI M6 (some a0) 2 35 fun x8 => sI M6 x7 0 (((4 : Int32) * x8) + (2 : Int32)) v2 fun M9 => gF M9 (some a0) 2 34 fun x10 => gI M9 (some a0) 2 35 fun x11 => sI M9 x10 0 (((4 : Int32) * x11) + (3 : Int32)) v5 fun M12 => gI M12 (some a0) 2 35 fun x13 => pV M12 (some a0) 2 35 (.int (x13 + (1 : Int32))) fun M14 => w_X3_tellParts_144 g F a0 Q K11 v3 v5 M14
def w_X3_tellParts_66 (g : gT) (F : Nat) (a0 : Nat) (Q : hM → Prop) (K11 : Int32 → Int32 → Int32 → hM → Prop) (v1 : Int32) (v2 : Int32) (v3 : Int32) (s0 : Int32) (M : hM) : Prop :=
  ((v1 < v3 → w_X3_tellParts_79 g F a0 Q K11 v1 v2 v3 s0 M) ∧ (¬ (v1 < v3) → ((s0 ≤ v2 → w_X3_tellParts_144 g F a0 Q K11 v3 s0 M) ∧ (¬ (s0 ≤ v2) → w_X3_tellParts_79 g F a0 Q K11 v1 v2 v3 s0 M))))
def w_X3_tellParts_48 (g : gT) (F : Nat) (a0 : Nat) (Q : hM → Prop) (K11 : Int32 → Int32 → Int32 → hM → Prop) (v1 : Int32) (v2 : Int32) (v3 : Int32) (v4 : Int32) (M : hM) : Prop :=
  ((v4 = 0 → gF M (some a0) 2 30 fun x1 => aI M x1 0 v3 fun x2 => w_X3_tellParts_66 g F a0 Q K11 v1 v2 v3 x2 M) ∧ (¬ (v4 = 0) → gI M (some a0) 2 29 fun x3 => w_X3_tellParts_66 g F a0 Q K11 v1 v2 v3 x3 M))
def w_X3_tellParts_32 (g : gT) (F : Nat) (a0 : Nat) (Q : hM → Prop) (K11 : Int32 → Int32 → Int32 → hM → Prop) (v1 : Int32) (v2 : Int32) (v3 : Int32) (s0 : Int32) (M : hM) : Prop :=
  ((¬ s0 = 0 → w_X3_tellParts_48 g F a0 Q K11 v1 v2 v3 s0 M) ∧ (s0 = 0 → gF M (some a0) 2 30 fun x1 => aI M x1 0 v3 fun x2 => ((x2 < 0 → w_X3_tellParts_153 g F a0 Q K11 v1 v2 v3 M) ∧ (¬ (x2 < 0) → w_X3_tellParts_48 g F a0 Q K11 v1 v2 v3 s0 M))))
def w_X3_tellParts_11 (g : gT) (F : Nat) (a0 : Nat) (Q : hM → Prop) : Nat → Int32 → Int32 → Int32 → hM → Prop
  | 0, _, _, _, _ => False
  | n + 1, v1, v2, v3, M => gI M (some a0) 2 27 fun x1 => ((x1 < v3 → Q M) ∧ (¬ (x1 < v3) → gI M (some a0) 2 27 fun x2 => ((¬ v3 = x2 → w_X3_tellParts_32 g F a0 Q (fun v1 v2 v3 M => w_X3_tellParts_11 g F a0 Q n v1 v2 v3 M) v1 v2 v3 (0 : Int32) M) ∧ (v3 = x2 → w_X3_tellParts_32 g F a0 Q (fun v1 v2 v3 M => w_X3_tellParts_11 g F a0 Q n v1 v2 v3 M) v1 v2 v3 (1 : Int32) M))))
def w_X3_tellParts (g : gT) (F : Nat) (a0 : Nat) (M : hM) (Q : hM → Prop) : Prop :=
  pV M (some a0) 2 35 (.int (0 : Int32)) fun M1 => w_X3_tellParts_11 g F a0 Q F (0 : Int32) (0 : Int32) (0 : Int32) M1
theorem g_X3_tellParts_153 {k : kT} {F : Nat} {a0 : Nat} {Q : hM → Prop} {K11 : Int32 → Int32 → Int32 → hM → Prop} (hJ : JOK (kl k) (kg k)) (hC : CX k 6 cX3_tellParts RX3 none 1 12) (hQ : isQ k (PU Q)) (hin : (kt k).name = "tellParts") (hK11 : ∀ (v1 : Int32) (v2 : Int32) (v3 : Int32) (M : hM), K11 v1 v2 v3 M → GW k 6 M 11 [some (va_rf (some a0)), some (.int v1), some (.int v2), some (.int v3), none, none] []) : ∀ (v1 : Int32) (v2 : Int32) (v3 : Int32) (M : hM), w_X3_tellParts_153 (kg k) F a0 Q K11 v1 v2 v3 M → GW k 6 M 153 [some (va_rf (some a0)), some (.int v1), some (.int v2), some (.int v3), none, none] [] := by
  intro v1 v2 v3 M hw
  refine G_iinc (pc := 153) (i := 3) (v := (v3 + (1 : Int32))) (lw := [some (va_rf (some a0)), some (.int v1), some (.int v2), some (.int (v3 + (1 : Int32))), none, none]) hC dX3_tellParts_153 rfl (Nat.le_of_ble_eq_true rfl) rfl rfl ?_
  refine G_goto (pc := 156) (tgt := 11) hC dX3_tellParts_156 (by decide) ?_
  exact hK11 v1 v2 (v3 + (1 : Int32)) M hw
theorem g_X3_tellParts_144 {k : kT} {F : Nat} {a0 : Nat} {Q : hM → Prop} {K11 : Int32 → Int32 → Int32 → hM → Prop} (hJ : JOK (kl k) (kg k)) (hC : CX k 6 cX3_tellParts RX3 none 1 12) (hQ : isQ k (PU Q)) (hin : (kt k).name = "tellParts") (hK11 : ∀ (v1 : Int32) (v2 : Int32) (v3 : Int32) (M : hM), K11 v1 v2 v3 M → GW k 6 M 11 [some (va_rf (some a0)), some (.int v1), some (.int v2), some (.int v3), none, none] []) : ∀ (v3 : Int32) (v5 : Int32) (M : hM), w_X3_tellParts_144 (kg k) F a0 Q K11 v3 v5 M → GW k 6 M 144 [some (va_rf (some a0)), none, none, some (.int v3), none, some (.int v5)] [] := by
  intro v3 v5 M hw
  refine G_iload_n (pc := 144) (i := 3) hC dX3_tellParts_144 rfl rfl ?_
  refine G_iconst (pc := 145) (v := 1) hC dX3_tellParts_145 (by decide) ?_
  refine G_iadd (pc := 146) hC dX3_tellParts_146 ?_
  refine G_istore_n (pc := 147) (i := 1) (lw := [some (va_rf (some a0)), some (.int (v3 + (1 : Int32))), none, some (.int v3), none, some (.int v5)]) hC dX3_tellParts_147 rfl (Nat.le_of_ble_eq_true rfl) rfl ?_
  refine G_iload (pc := 148) (i := 5) hC dX3_tellParts_148 rfl ?_
  refine G_iconst (pc := 150) (v := 1) hC dX3_tellParts_150 (by decide) ?_
  refine G_iadd (pc := 151) hC dX3_tellParts_151 ?_
  refine G_istore_n (pc := 152) (i := 2) (lw := [some (va_rf (some a0)), some (.int (v3 + (1 : Int32))), some (.int (v5 + (1 : Int32))), some (.int v3), none, some (.int v5)]) hC dX3_tellParts_152 rfl (Nat.le_of_ble_eq_true rfl) rfl ?_
  refine G_loc (lv' := [some (va_rf (some a0)), some (.int (v3 + (1 : Int32))), some (.int (v5 + (1 : Int32))), some (.int v3), none, none]) ⟨Or.inr rfl, Or.inr rfl, Or.inr rfl, Or.inr rfl, Or.inr rfl, Or.inl rfl, trivial⟩ ?_
  exact g_X3_tellParts_153 hJ hC hQ hin hK11  (v3 + (1 : Int32)) (v5 + (1 : Int32)) v3 M hw
theorem g_X3_tellParts_79 {k : kT} {F : Nat} {a0 : Nat} {Q : hM → Prop} {K11 : Int32 → Int32 → Int32 → hM → Prop} (hJ : JOK (kl k) (kg k)) (hC : CX k 6 cX3_tellParts RX3 none 1 12) (hQ : isQ k (PU Q)) (hin : (kt k).name = "tellParts") (hK11 : ∀ (v1 : Int32) (v2 : Int32) (v3 : Int32) (M : hM), K11 v1 v2 v3 M → GW k 6 M 11 [some (va_rf (some a0)), some (.int v1), some (.int v2), some (.int v3), none, none] []) : ∀ (v1 : Int32) (v2 : Int32) (v3 : Int32) (v5 : Int32) (M : hM), w_X3_tellParts_79 (kg k) F a0 Q K11 v1 v2 v3 v5 M → GW k 6 M 79 [some (va_rf (some a0)), some (.int v1), some (.int v2), some (.int v3), none, some (.int v5)] [] := by
  intro v1 v2 v3 v5 M hw
  refine G_aload_n (pc := 79) (i := 0) hC dX3_tellParts_79 rfl rfl ?_
  refine G_getF (pc := 80) (ci := 2) (C := RX3) (T := TX3) (N := 61) (f := 34) hC rfl in_X3 (Nat.le_of_ble_eq_true rfl) q3408 (fun _ h => h) dX3_tellParts_80 hw (fun x1 hw => ?_)
  refine G_iconst (pc := 83) (v := 4) hC dX3_tellParts_83 (by decide) ?_
  refine G_aload_n (pc := 84) (i := 0) hC dX3_tellParts_84 rfl rfl ?_
  refine G_getI (pc := 85) (ci := 2) (C := RX3) (T := TX3) (N := 61) (f := 35) hC rfl in_X3 (Nat.le_of_ble_eq_true rfl) q3409 (fun _ h => h) dX3_tellParts_85 hw (fun x2 hw => ?_)
  refine G_imul (pc := 88) hC dX3_tellParts_88 ?_
  refine G_iload_n (pc := 89) (i := 1) hC dX3_tellParts_89 rfl rfl ?_
  refine G_iast (pc := 90) hC dX3_tellParts_90 hw (fun M3 hw => ?_)
  refine G_aload_n (pc := 91) (i := 0) hC dX3_tellParts_91 rfl rfl ?_
  refine G_getF (pc := 92) (ci := 2) (C := RX3) (T := TX3) (N := 61) (f := 34) hC rfl in_X3 (Nat.le_of_ble_eq_true rfl) q3408 (fun _ h => h) dX3_tellParts_92 hw (fun x4 hw => ?_)
  refine G_iconst (pc := 95) (v := 4) hC dX3_tellParts_95 (by decide) ?_
  refine G_aload_n (pc := 96) (i := 0) hC dX3_tellParts_96 rfl rfl ?_
  refine G_getI (pc := 97) (ci := 2) (C := RX3) (T := TX3) (N := 61) (f := 35) hC rfl in_X3 (Nat.le_of_ble_eq_true rfl) q3409 (fun _ h => h) dX3_tellParts_97 hw (fun x5 hw => ?_)
  refine G_imul (pc := 100) hC dX3_tellParts_100 ?_
  refine G_iconst (pc := 101) (v := 1) hC dX3_tellParts_101 (by decide) ?_
  refine G_iadd (pc := 102) hC dX3_tellParts_102 ?_
  refine G_iload_n (pc := 103) (i := 3) hC dX3_tellParts_103 rfl rfl ?_
  refine G_iast (pc := 104) hC dX3_tellParts_104 hw (fun M6 hw => ?_)
  refine G_aload_n (pc := 105) (i := 0) hC dX3_tellParts_105 rfl rfl ?_
  refine G_getF (pc := 106) (ci := 2) (C := RX3) (T := TX3) (N := 61) (f := 34) hC rfl in_X3 (Nat.le_of_ble_eq_true rfl) q3408 (fun _ h => h) dX3_tellParts_106 hw (fun x7 hw => ?_)
  refine G_iconst (pc := 109) (v := 4) hC dX3_tellParts_109 (by decide) ?_
  refine G_aload_n (pc := 110) (i := 0) hC dX3_tellParts_110 rfl rfl ?_
  refine G_getI (pc := 111) (ci := 2) (C := RX3) (T := TX3) (N := 61) (f := 35) hC rfl in_X3 (Nat.le_of_ble_eq_true rfl) q3409 (fun _ h => h) dX3_tellParts_111 hw (fun x8 hw => ?_)
  refine G_imul (pc := 114) hC dX3_tellParts_114 ?_
  refine G_iconst (pc := 115) (v := 2) hC dX3_tellParts_115 (by decide) ?_
  refine G_iadd (pc := 116) hC dX3_tellParts_116 ?_
  refine G_iload_n (pc := 117) (i := 2) hC dX3_tellParts_117 rfl rfl ?_
  refine G_iast (pc := 118) hC dX3_tellParts_118 hw (fun M9 hw => ?_)
  refine G_aload_n (pc := 119) (i := 0) hC dX3_tellParts_119 rfl rfl ?_
  refine G_getF (pc := 120) (ci := 2) (C := RX3) (T := TX3) (N := 61) (f := 34) hC rfl in_X3 (Nat.le_of_ble_eq_true rfl) q3408 (fun _ h => h) dX3_tellParts_120 hw (fun x10 hw => ?_)
  refine G_iconst (pc := 123) (v := 4) hC dX3_tellParts_123 (by decide) ?_
  refine G_aload_n (pc := 124) (i := 0) hC dX3_tellParts_124 rfl rfl ?_
  refine G_getI (pc := 125) (ci := 2) (C := RX3) (T := TX3) (N := 61) (f := 35) hC rfl in_X3 (Nat.le_of_ble_eq_true rfl) q3409 (fun _ h => h) dX3_tellParts_125 hw (fun x11 hw => ?_)
  refine G_imul (pc := 128) hC dX3_tellParts_128 ?_
  refine G_iconst (pc := 129) (v := 3) hC dX3_tellParts_129 (by decide) ?_
  refine G_iadd (pc := 130) hC dX3_tellParts_130 ?_
  refine G_iload (pc := 131) (i := 5) hC dX3_tellParts_131 rfl ?_
  refine G_iast (pc := 133) hC dX3_tellParts_133 hw (fun M12 hw => ?_)
  refine G_aload_n (pc := 134) (i := 0) hC dX3_tellParts_134 rfl rfl ?_
  refine G_dup (pc := 135) hC dX3_tellParts_135 (rf_cat _) ?_
  refine G_getI (pc := 136) (ci := 2) (C := RX3) (T := TX3) (N := 61) (f := 35) hC rfl in_X3 (Nat.le_of_ble_eq_true rfl) q3409 (fun _ h => h) dX3_tellParts_136 hw (fun x13 hw => ?_)
  refine G_iconst (pc := 139) (v := 1) hC dX3_tellParts_139 (by decide) ?_
  refine G_iadd (pc := 140) hC dX3_tellParts_140 ?_
  refine G_put (pc := 141) (ci := 2) (C := RX3) (T := TX3) (N := 61) (f := 35) tyX3 hC rfl in_X3 tyX3_ok nmX3 (Nat.le_of_ble_eq_true rfl) q3409 (fun _ h => h) rfl rfl rfl dX3_tellParts_141 hw (fun M14 hw => ?_)
  refine G_loc (lv' := [some (va_rf (some a0)), none, none, some (.int v3), none, some (.int v5)]) ⟨Or.inr rfl, Or.inl rfl, Or.inl rfl, Or.inr rfl, Or.inr rfl, Or.inr rfl, trivial⟩ ?_
  exact g_X3_tellParts_144 hJ hC hQ hin hK11  v3 v5 M14 hw
theorem g_X3_tellParts_66 {k : kT} {F : Nat} {a0 : Nat} {Q : hM → Prop} {K11 : Int32 → Int32 → Int32 → hM → Prop} (hJ : JOK (kl k) (kg k)) (hC : CX k 6 cX3_tellParts RX3 none 1 12) (hQ : isQ k (PU Q)) (hin : (kt k).name = "tellParts") (hK11 : ∀ (v1 : Int32) (v2 : Int32) (v3 : Int32) (M : hM), K11 v1 v2 v3 M → GW k 6 M 11 [some (va_rf (some a0)), some (.int v1), some (.int v2), some (.int v3), none, none] []) : ∀ (v1 : Int32) (v2 : Int32) (v3 : Int32) (s0 : Int32) (M : hM), w_X3_tellParts_66 (kg k) F a0 Q K11 v1 v2 v3 s0 M → GW k 6 M 66 [some (va_rf (some a0)), some (.int v1), some (.int v2), some (.int v3), none, none] [.int s0] := by
  intro v1 v2 v3 s0 M hw
  refine G_istore (pc := 66) (i := 5) (lw := [some (va_rf (some a0)), some (.int v1), some (.int v2), some (.int v3), none, some (.int s0)]) hC dX3_tellParts_66 (Nat.le_of_ble_eq_true rfl) rfl ?_
  refine G_iload_n (pc := 68) (i := 3) hC dX3_tellParts_68 rfl rfl ?_
  refine G_iload_n (pc := 69) (i := 1) hC dX3_tellParts_69 rfl rfl ?_
  refine G_icmp_gt (pc := 70) (tgt := 79) hC dX3_tellParts_70 (by decide) (fun hc => ?_) (fun hc => ?_)
  · replace hw := hw.1 hc
    exact g_X3_tellParts_79 hJ hC hQ hin hK11  v1 v2 v3 s0 M hw
  · replace hw := hw.2 hc
    refine G_iload (pc := 73) (i := 5) hC dX3_tellParts_73 rfl ?_
    refine G_iload_n (pc := 75) (i := 2) hC dX3_tellParts_75 rfl rfl ?_
    refine G_icmp_le (pc := 76) (tgt := 144) hC dX3_tellParts_76 (by decide) (fun hc => ?_) (fun hc => ?_)
    · replace hw := hw.1 hc
      refine G_loc (lv' := [some (va_rf (some a0)), none, none, some (.int v3), none, some (.int s0)]) ⟨Or.inr rfl, Or.inl rfl, Or.inl rfl, Or.inr rfl, Or.inr rfl, Or.inr rfl, trivial⟩ ?_
      exact g_X3_tellParts_144 hJ hC hQ hin hK11  v3 s0 M hw
    · replace hw := hw.2 hc
      exact g_X3_tellParts_79 hJ hC hQ hin hK11  v1 v2 v3 s0 M hw
theorem g_X3_tellParts_48 {k : kT} {F : Nat} {a0 : Nat} {Q : hM → Prop} {K11 : Int32 → Int32 → Int32 → hM → Prop} (hJ : JOK (kl k) (kg k)) (hC : CX k 6 cX3_tellParts RX3 none 1 12) (hQ : isQ k (PU Q)) (hin : (kt k).name = "tellParts") (hK11 : ∀ (v1 : Int32) (v2 : Int32) (v3 : Int32) (M : hM), K11 v1 v2 v3 M → GW k 6 M 11 [some (va_rf (some a0)), some (.int v1), some (.int v2), some (.int v3), none, none] []) : ∀ (v1 : Int32) (v2 : Int32) (v3 : Int32) (v4 : Int32) (M : hM), w_X3_tellParts_48 (kg k) F a0 Q K11 v1 v2 v3 v4 M → GW k 6 M 48 [some (va_rf (some a0)), some (.int v1), some (.int v2), some (.int v3), some (.int v4), none] [] := by
  intro v1 v2 v3 v4 M hw
  refine G_iload (pc := 48) (i := 4) hC dX3_tellParts_48 rfl ?_
  refine G_if_eq (pc := 50) (tgt := 60) hC dX3_tellParts_50 (by decide) (fun hc => ?_) (fun hc => ?_)
  · replace hw := hw.1 hc
    refine G_aload_n (pc := 60) (i := 0) hC dX3_tellParts_60 rfl rfl ?_
    refine G_getF (pc := 61) (ci := 2) (C := RX3) (T := TX3) (N := 61) (f := 30) hC rfl in_X3 (Nat.le_of_ble_eq_true rfl) q3404 (fun _ h => h) dX3_tellParts_61 hw (fun x1 hw => ?_)
    refine G_iload_n (pc := 64) (i := 3) hC dX3_tellParts_64 rfl rfl ?_
    refine G_iald (pc := 65) hC dX3_tellParts_65 hw (fun x2 hw => ?_)
    refine G_loc (lv' := [some (va_rf (some a0)), some (.int v1), some (.int v2), some (.int v3), none, none]) ⟨Or.inr rfl, Or.inr rfl, Or.inr rfl, Or.inr rfl, Or.inl rfl, Or.inr rfl, trivial⟩ ?_
    exact g_X3_tellParts_66 hJ hC hQ hin hK11  v1 v2 v3 x2 M hw
  · replace hw := hw.2 hc
    refine G_aload_n (pc := 53) (i := 0) hC dX3_tellParts_53 rfl rfl ?_
    refine G_getI (pc := 54) (ci := 2) (C := RX3) (T := TX3) (N := 61) (f := 29) hC rfl in_X3 (Nat.le_of_ble_eq_true rfl) q3403 (fun _ h => h) dX3_tellParts_54 hw (fun x3 hw => ?_)
    refine G_goto (pc := 57) (tgt := 66) hC dX3_tellParts_57 (by decide) ?_
    refine G_loc (lv' := [some (va_rf (some a0)), some (.int v1), some (.int v2), some (.int v3), none, none]) ⟨Or.inr rfl, Or.inr rfl, Or.inr rfl, Or.inr rfl, Or.inl rfl, Or.inr rfl, trivial⟩ ?_
    exact g_X3_tellParts_66 hJ hC hQ hin hK11  v1 v2 v3 x3 M hw
theorem g_X3_tellParts_32 {k : kT} {F : Nat} {a0 : Nat} {Q : hM → Prop} {K11 : Int32 → Int32 → Int32 → hM → Prop} (hJ : JOK (kl k) (kg k)) (hC : CX k 6 cX3_tellParts RX3 none 1 12) (hQ : isQ k (PU Q)) (hin : (kt k).name = "tellParts") (hK11 : ∀ (v1 : Int32) (v2 : Int32) (v3 : Int32) (M : hM), K11 v1 v2 v3 M → GW k 6 M 11 [some (va_rf (some a0)), some (.int v1), some (.int v2), some (.int v3), none, none] []) : ∀ (v1 : Int32) (v2 : Int32) (v3 : Int32) (s0 : Int32) (M : hM), w_X3_tellParts_32 (kg k) F a0 Q K11 v1 v2 v3 s0 M → GW k 6 M 32 [some (va_rf (some a0)), some (.int v1), some (.int v2), some (.int v3), none, none] [.int s0] := by
  intro v1 v2 v3 s0 M hw
  refine G_istore (pc := 32) (i := 4) (lw := [some (va_rf (some a0)), some (.int v1), some (.int v2), some (.int v3), some (.int s0), none]) hC dX3_tellParts_32 (Nat.le_of_ble_eq_true rfl) rfl ?_
  refine G_iload (pc := 34) (i := 4) hC dX3_tellParts_34 rfl ?_
  refine G_if_ne (pc := 36) (tgt := 48) hC dX3_tellParts_36 (by decide) (fun hc => ?_) (fun hc => ?_)
  · replace hw := hw.1 hc
    exact g_X3_tellParts_48 hJ hC hQ hin hK11  v1 v2 v3 s0 M hw
  · replace hw := hw.2 hc
    refine G_aload_n (pc := 39) (i := 0) hC dX3_tellParts_39 rfl rfl ?_
    refine G_getF (pc := 40) (ci := 2) (C := RX3) (T := TX3) (N := 61) (f := 30) hC rfl in_X3 (Nat.le_of_ble_eq_true rfl) q3404 (fun _ h => h) dX3_tellParts_40 hw (fun x1 hw => ?_)
    refine G_iload_n (pc := 43) (i := 3) hC dX3_tellParts_43 rfl rfl ?_
    refine G_iald (pc := 44) hC dX3_tellParts_44 hw (fun x2 hw => ?_)
    refine G_if_lt (pc := 45) (tgt := 153) hC dX3_tellParts_45 (by decide) (fun hc => ?_) (fun hc => ?_)
    · replace hw := hw.1 hc
      refine G_loc (lv' := [some (va_rf (some a0)), some (.int v1), some (.int v2), some (.int v3), none, none]) ⟨Or.inr rfl, Or.inr rfl, Or.inr rfl, Or.inr rfl, Or.inl rfl, Or.inr rfl, trivial⟩ ?_
      exact g_X3_tellParts_153 hJ hC hQ hin hK11  v1 v2 v3 M hw
    · replace hw := hw.2 hc
      exact g_X3_tellParts_48 hJ hC hQ hin hK11  v1 v2 v3 s0 M hw
theorem g_X3_tellParts_11 {k : kT} {F : Nat} {a0 : Nat} {Q : hM → Prop} (hJ : JOK (kl k) (kg k)) (hC : CX k 6 cX3_tellParts RX3 none 1 12) (hQ : isQ k (PU Q)) (hin : (kt k).name = "tellParts") : ∀ (n : Nat) (v1 : Int32) (v2 : Int32) (v3 : Int32) (M : hM), w_X3_tellParts_11 (kg k) F a0 Q n v1 v2 v3 M → GW k 6 M 11 [some (va_rf (some a0)), some (.int v1), some (.int v2), some (.int v3), none, none] [] := by
  intro n
  induction n with
  | zero =>
    intro v1 v2 v3 M hw
    exact hw.elim
  | succ n ih =>
    intro v1 v2 v3 M hw
    refine G_iload_n (pc := 11) (i := 3) hC dX3_tellParts_11 rfl rfl ?_
    refine G_aload_n (pc := 12) (i := 0) hC dX3_tellParts_12 rfl rfl ?_
    refine G_getI (pc := 13) (ci := 2) (C := RX3) (T := TX3) (N := 61) (f := 27) hC rfl in_X3 (Nat.le_of_ble_eq_true rfl) q3401 (fun _ h => h) dX3_tellParts_13 hw (fun x1 hw => ?_)
    refine G_icmp_gt (pc := 16) (tgt := 159) hC dX3_tellParts_16 (by decide) (fun hc => ?_) (fun hc => ?_)
    · replace hw := hw.1 hc
      exact G_ret (pc := 159) hC hQ dX3_tellParts_159 hw
    · replace hw := hw.2 hc
      refine G_iload_n (pc := 19) (i := 3) hC dX3_tellParts_19 rfl rfl ?_
      refine G_aload_n (pc := 20) (i := 0) hC dX3_tellParts_20 rfl rfl ?_
      refine G_getI (pc := 21) (ci := 2) (C := RX3) (T := TX3) (N := 61) (f := 27) hC rfl in_X3 (Nat.le_of_ble_eq_true rfl) q3401 (fun _ h => h) dX3_tellParts_21 hw (fun x2 hw => ?_)
      refine G_icmp_ne (pc := 24) (tgt := 31) hC dX3_tellParts_24 (by decide) (fun hc => ?_) (fun hc => ?_)
      · replace hw := hw.1 hc
        refine G_iconst (pc := 31) (v := 0) hC dX3_tellParts_31 (by decide) ?_
        exact g_X3_tellParts_32 hJ hC hQ hin ih  v1 v2 v3 (0 : Int32) M hw
      · replace hw := hw.2 hc
        refine G_iconst (pc := 27) (v := 1) hC dX3_tellParts_27 (by decide) ?_
        refine G_goto (pc := 28) (tgt := 32) hC dX3_tellParts_28 (by decide) ?_
        exact g_X3_tellParts_32 hJ hC hQ hin ih  v1 v2 v3 (1 : Int32) M hw
theorem m_X3_tellParts {l : Launch} {g : gT} {F : Nat} {a0 : Nat} {M : hM} {Q : hM → Prop} (hJ : JOK l g) (hw : w_X3_tellParts g F a0 M Q) : MG l g yX3_tellParts (ws_ yX3_tellParts cX3_tellParts 6 none) 1 12 [va_rf (some a0)] M (PU Q) := by
  refine MG_of hJ.2.1 (by decide) (cat_r cat_e) (Nat.le_of_ble_eq_true rfl) (fun k hl hg hin hQ hC => ?_)
  subst hl hg
  show GW k 6 M 0 [some (va_rf (some a0)), none, none, none, none, none] []
  refine G_aload_n (pc := 0) (i := 0) hC dX3_tellParts_0 rfl rfl ?_
  refine G_iconst (pc := 1) (v := 0) hC dX3_tellParts_1 (by decide) ?_
  refine G_put (pc := 2) (ci := 2) (C := RX3) (T := TX3) (N := 61) (f := 35) tyX3 hC rfl in_X3 tyX3_ok nmX3 (Nat.le_of_ble_eq_true rfl) q3409 (fun _ h => h) rfl rfl rfl dX3_tellParts_2 hw (fun M1 hw => ?_)
  refine G_iconst (pc := 5) (v := 0) hC dX3_tellParts_5 (by decide) ?_
  refine G_istore_n (pc := 6) (i := 1) (lw := [some (va_rf (some a0)), some (.int (0 : Int32)), none, none, none, none]) hC dX3_tellParts_6 rfl (Nat.le_of_ble_eq_true rfl) rfl ?_
  refine G_iconst (pc := 7) (v := 0) hC dX3_tellParts_7 (by decide) ?_
  refine G_istore_n (pc := 8) (i := 2) (lw := [some (va_rf (some a0)), some (.int (0 : Int32)), some (.int (0 : Int32)), none, none, none]) hC dX3_tellParts_8 rfl (Nat.le_of_ble_eq_true rfl) rfl ?_
  refine G_iconst (pc := 9) (v := 0) hC dX3_tellParts_9 (by decide) ?_
  refine G_istore_n (pc := 10) (i := 3) (lw := [some (va_rf (some a0)), some (.int (0 : Int32)), some (.int (0 : Int32)), some (.int (0 : Int32)), none, none]) hC dX3_tellParts_10 rfl (Nat.le_of_ble_eq_true rfl) rfl ?_
  exact g_X3_tellParts_11 hJ hC hQ hin _ (0 : Int32) (0 : Int32) (0 : Int32) M1 hw
def w_X3_pairMany_27 (g : gT) (F : Nat) (a0 : Nat) (Q : Int32 → hM → Prop) (K4 : Int32 → Int32 → hM → Prop) (v2 : Int32) (s0 : Int32) (s1 : Int32) (M : hM) : Prop :=
  K4 (s0 + s1) (v2 + (1 : Int32)) M
def w_X3_pairMany_4 (g : gT) (F : Nat) (a0 : Nat) (Q : Int32 → hM → Prop) : Nat → Int32 → Int32 → hM → Prop
  | 0, _, _, _ => False
  | n + 1, v1, v2, M => gI M (some a0) 2 27 fun x1 => ((x1 ≤ v2 → Q v1 M) ∧ (¬ (x1 ≤ v2) → gF M (some a0) 2 30 fun x2 => aI M x2 0 v2 fun x3 => ((x3 < 0 → w_X3_pairMany_27 g F a0 Q (fun v1 v2 M => w_X3_pairMany_4 g F a0 Q n v1 v2 M) v2 v1 (0 : Int32) M) ∧ (¬ (x3 < 0) → w_X3_pairMany_27 g F a0 Q (fun v1 v2 M => w_X3_pairMany_4 g F a0 Q n v1 v2 M) v2 v1 (1 : Int32) M))))
def w_X3_pairMany (g : gT) (F : Nat) (a0 : Nat) (M : hM) (Q : Int32 → hM → Prop) : Prop :=
  w_X3_pairMany_4 g F a0 Q F (0 : Int32) (0 : Int32) M
theorem g_X3_pairMany_27 {k : kT} {F : Nat} {a0 : Nat} {Q : Int32 → hM → Prop} {K4 : Int32 → Int32 → hM → Prop} (hJ : JOK (kl k) (kg k)) (hC : CX k 3 cX3_pairMany RX3 (some .int) 1 12) (hQ : isQ k (PI Q)) (hin : (kt k).name = "pairMany") (hK4 : ∀ (v1 : Int32) (v2 : Int32) (M : hM), K4 v1 v2 M → GW k 3 M 4 [some (va_rf (some a0)), some (.int v1), some (.int v2)] []) : ∀ (v2 : Int32) (s0 : Int32) (s1 : Int32) (M : hM), w_X3_pairMany_27 (kg k) F a0 Q K4 v2 s0 s1 M → GW k 3 M 27 [some (va_rf (some a0)), none, some (.int v2)] [.int s1, .int s0] := by
  intro v2 s0 s1 M hw
  refine G_iadd (pc := 27) hC dX3_pairMany_27 ?_
  refine G_istore_n (pc := 28) (i := 1) (lw := [some (va_rf (some a0)), some (.int (s0 + s1)), some (.int v2)]) hC dX3_pairMany_28 rfl (Nat.le_of_ble_eq_true rfl) rfl ?_
  refine G_iinc (pc := 29) (i := 2) (v := (v2 + (1 : Int32))) (lw := [some (va_rf (some a0)), some (.int (s0 + s1)), some (.int (v2 + (1 : Int32)))]) hC dX3_pairMany_29 rfl (Nat.le_of_ble_eq_true rfl) rfl rfl ?_
  refine G_goto (pc := 32) (tgt := 4) hC dX3_pairMany_32 (by decide) ?_
  exact hK4 (s0 + s1) (v2 + (1 : Int32)) M hw
theorem g_X3_pairMany_4 {k : kT} {F : Nat} {a0 : Nat} {Q : Int32 → hM → Prop} (hJ : JOK (kl k) (kg k)) (hC : CX k 3 cX3_pairMany RX3 (some .int) 1 12) (hQ : isQ k (PI Q)) (hin : (kt k).name = "pairMany") : ∀ (n : Nat) (v1 : Int32) (v2 : Int32) (M : hM), w_X3_pairMany_4 (kg k) F a0 Q n v1 v2 M → GW k 3 M 4 [some (va_rf (some a0)), some (.int v1), some (.int v2)] [] := by
  intro n
  induction n with
  | zero =>
    intro v1 v2 M hw
    exact hw.elim
  | succ n ih =>
    intro v1 v2 M hw
    refine G_iload_n (pc := 4) (i := 2) hC dX3_pairMany_4 rfl rfl ?_
    refine G_aload_n (pc := 5) (i := 0) hC dX3_pairMany_5 rfl rfl ?_
    refine G_getI (pc := 6) (ci := 2) (C := RX3) (T := TX3) (N := 61) (f := 27) hC rfl in_X3 (Nat.le_of_ble_eq_true rfl) q3401 (fun _ h => h) dX3_pairMany_6 hw (fun x1 hw => ?_)
    refine G_icmp_ge (pc := 9) (tgt := 35) hC dX3_pairMany_9 (by decide) (fun hc => ?_) (fun hc => ?_)
    · replace hw := hw.1 hc
      refine G_iload_n (pc := 35) (i := 1) hC dX3_pairMany_35 rfl rfl ?_
      exact G_iret (pc := 36) hC rfl hQ dX3_pairMany_36 hw
    · replace hw := hw.2 hc
      refine G_iload_n (pc := 12) (i := 1) hC dX3_pairMany_12 rfl rfl ?_
      refine G_aload_n (pc := 13) (i := 0) hC dX3_pairMany_13 rfl rfl ?_
      refine G_getF (pc := 14) (ci := 2) (C := RX3) (T := TX3) (N := 61) (f := 30) hC rfl in_X3 (Nat.le_of_ble_eq_true rfl) q3404 (fun _ h => h) dX3_pairMany_14 hw (fun x2 hw => ?_)
      refine G_iload_n (pc := 17) (i := 2) hC dX3_pairMany_17 rfl rfl ?_
      refine G_iald (pc := 18) hC dX3_pairMany_18 hw (fun x3 hw => ?_)
      refine G_if_lt (pc := 19) (tgt := 26) hC dX3_pairMany_19 (by decide) (fun hc => ?_) (fun hc => ?_)
      · replace hw := hw.1 hc
        refine G_iconst (pc := 26) (v := 0) hC dX3_pairMany_26 (by decide) ?_
        refine G_loc (lv' := [some (va_rf (some a0)), none, some (.int v2)]) ⟨Or.inr rfl, Or.inl rfl, Or.inr rfl, trivial⟩ ?_
        exact g_X3_pairMany_27 hJ hC hQ hin ih  v2 v1 (0 : Int32) M hw
      · replace hw := hw.2 hc
        refine G_iconst (pc := 22) (v := 1) hC dX3_pairMany_22 (by decide) ?_
        refine G_goto (pc := 23) (tgt := 27) hC dX3_pairMany_23 (by decide) ?_
        refine G_loc (lv' := [some (va_rf (some a0)), none, some (.int v2)]) ⟨Or.inr rfl, Or.inl rfl, Or.inr rfl, trivial⟩ ?_
        exact g_X3_pairMany_27 hJ hC hQ hin ih  v2 v1 (1 : Int32) M hw
theorem m_X3_pairMany {l : Launch} {g : gT} {F : Nat} {a0 : Nat} {M : hM} {Q : Int32 → hM → Prop} (hJ : JOK l g) (hw : w_X3_pairMany g F a0 M Q) : MG l g yX3_pairMany (ws_ yX3_pairMany cX3_pairMany 3 (some .int)) 1 12 [va_rf (some a0)] M (PI Q) := by
  refine MG_of hJ.2.1 (by decide) (cat_r cat_e) (Nat.le_of_ble_eq_true rfl) (fun k hl hg hin hQ hC => ?_)
  subst hl hg
  show GW k 3 M 0 [some (va_rf (some a0)), none, none] []
  refine G_iconst (pc := 0) (v := 0) hC dX3_pairMany_0 (by decide) ?_
  refine G_istore_n (pc := 1) (i := 1) (lw := [some (va_rf (some a0)), some (.int (0 : Int32)), none]) hC dX3_pairMany_1 rfl (Nat.le_of_ble_eq_true rfl) rfl ?_
  refine G_iconst (pc := 2) (v := 0) hC dX3_pairMany_2 (by decide) ?_
  refine G_istore_n (pc := 3) (i := 2) (lw := [some (va_rf (some a0)), some (.int (0 : Int32)), some (.int (0 : Int32))]) hC dX3_pairMany_3 rfl (Nat.le_of_ble_eq_true rfl) rfl ?_
  exact g_X3_pairMany_4 hJ hC hQ hin _ (0 : Int32) (0 : Int32) M hw
theorem hd_X3_aligns : yX3_aligns.cls = "MergeWorkbenchModel" ∧ yX3_aligns.cls ≠ "java/lang/invoke/MethodHandle" ∧ yX3_aligns.cls ≠ "java/lang/invoke/VarHandle" ∧ (parseMethodDescriptor yX3_aligns.desc).map (fun d => d.parameters.length) = some 5 := by decide +kernel
theorem hd_X3_pairMany : yX3_pairMany.cls = "MergeWorkbenchModel" ∧ yX3_pairMany.cls ≠ "java/lang/invoke/MethodHandle" ∧ yX3_pairMany.cls ≠ "java/lang/invoke/VarHandle" ∧ (parseMethodDescriptor yX3_pairMany.desc).map (fun d => d.parameters.length) = some 0 := by decide +kernel
theorem hd_X3_tellParts : yX3_tellParts.cls = "MergeWorkbenchModel" ∧ yX3_tellParts.cls ≠ "java/lang/invoke/MethodHandle" ∧ yX3_tellParts.cls ≠ "java/lang/invoke/VarHandle" ∧ (parseMethodDescriptor yX3_tellParts.desc).map (fun d => d.parameters.length) = some 0 := by decide +kernel
def w_X3_compare_14 (g : gT) (F : Nat) (a0 : Nat) (p1 : Int32) (p2 : Int32) (Q : Int32 → hM → Prop) (M : hM) : Prop :=
  (isC M a0 2 ∧ w_X3_fails g F a0 (1 : Int32) M (fun x2 M1 => Q x2 M1))
def w_X3_compare (g : gT) (F : Nat) (a0 : Nat) (p1 : Int32) (p2 : Int32) (M : hM) (Q : Int32 → hM → Prop) : Prop :=
  w_X3_isRegister g F p1 M (fun x2 M1 => ((x2 = 0 → w_X3_compare_14 g F a0 p1 p2 Q M1) ∧ (¬ (x2 = 0) → w_X3_isRegister g F p2 M1 (fun x4 M3 => ((¬ x4 = 0 → pV M3 (some a0) 2 25 (.int (1 : Int32)) fun M5 => gF M5 (some a0) 2 26 fun x6 => (isC M5 a0 2 ∧ w_X3_takes g F a0 p1 x6 M5 (fun x8 M7 => pV M7 (some a0) 2 27 (.int x8) fun M9 => gF M9 (some a0) 2 28 fun x10 => (isC M9 a0 2 ∧ w_X3_takes g F a0 p2 x10 M9 (fun x12 M11 => pV M11 (some a0) 2 29 (.int x12) fun M13 => gF M13 (some a0) 2 26 fun x14 => gI M13 (some a0) 2 27 fun x15 => gF M13 (some a0) 2 28 fun x16 => gI M13 (some a0) 2 29 fun x17 => gF M13 (some a0) 2 30 fun x18 => (isC M13 a0 2 ∧ w_X3_aligns g F a0 x14 x15 x16 x17 x18 M13 (fun M19 => gI M19 (some a0) 2 22 fun x20 => pV M19 (some a0) 2 31 (.int x20) fun M21 => pV M21 (some a0) 2 33 (.int (0 : Int32)) fun M22 => (isC M22 a0 2 ∧ w_X3_tellParts g F a0  M22 (fun M23 => (isC M23 a0 2 ∧ w_X3_pairMany g F a0  M23 (fun x25 M24 => (isC M24 a0 2 ∧ w_X3_done g F a0 x25 M24 (fun x27 M26 => Q x27 M26))))))))))))) ∧ (x4 = 0 → w_X3_compare_14 g F a0 p1 p2 Q M3))))))
theorem g_X3_compare_14 {k : kT} {F : Nat} {a0 : Nat} {p1 : Int32} {p2 : Int32} {Q : Int32 → hM → Prop} (hJ : JOK (kl k) (kg k)) (hC : CX k 3 cX3_compare RX3 (some .int) 5 123) (hQ : isQ k (PI Q)) (hin : (kt k).name = "compare") : ∀  (M : hM), w_X3_compare_14 (kg k) F a0 p1 p2 Q  M → GW k 3 M 14 [some (va_rf (some a0)), some (.int p1), some (.int p2)] [] := by
  intro  M hw
  refine G_aload_n (pc := 14) (i := 0) hC dX3_compare_14 rfl rfl ?_
  refine G_iconst (pc := 15) (v := 1) hC dX3_compare_15 (by decide) ?_
  obtain ⟨hb, hw⟩ := hw
  refine G_callV (pc := 16) (n := 1) (C := "MergeWorkbenchModel") (b := a0) (As := [.int (1 : Int32)]) (rest := []) hC (m_X3_fails hJ hw) (lw_V q3573 q3575 qs52 q108 q3576) hd_X3_fails (by decide) (rcv (C := RX3) (T := TX3) (N := 61) hC hb rfl) rfl rfl (st_c cat_e (Nat.le_of_ble_eq_true rfl)) dX3_compare_16 (kI fun x2 M1 hw => ?_)
  exact G_iret (pc := 19) hC rfl hQ dX3_compare_19 hw
theorem m_X3_compare {l : Launch} {g : gT} {F : Nat} {a0 : Nat} {p1 : Int32} {p2 : Int32} {M : hM} {Q : Int32 → hM → Prop} (hJ : JOK l g) (hw : w_X3_compare g F a0 p1 p2 M Q) : MG l g yX3_compare (ws_ yX3_compare cX3_compare 3 (some .int)) 5 123 [va_rf (some a0), .int p1, .int p2] M (PI Q) := by
  refine MG_of hJ.2.1 (by decide) (cat_r (cat_i (cat_i cat_e))) (Nat.le_of_ble_eq_true rfl) (fun k hl hg hin hQ hC => ?_)
  subst hl hg
  show GW k 3 M 0 [some (va_rf (some a0)), some (.int p1), some (.int p2)] []
  refine G_iload_n (pc := 0) (i := 1) hC dX3_compare_0 rfl rfl ?_
  refine G_callS (pc := 1) (n := 1) (As := [.int p1]) (rest := []) hC (m_X3_isRegister hJ hw) (lw_S q3567 q3568 q108 q3569) hd_X3_isRegister.2 (by decide) rfl rfl (st_c cat_e (Nat.le_of_ble_eq_true rfl)) dX3_compare_1 (kI fun x2 M1 hw => ?_)
  refine G_if_eq (pc := 4) (tgt := 14) hC dX3_compare_4 (by decide) (fun hc => ?_) (fun hc => ?_)
  · replace hw := hw.1 hc
    exact g_X3_compare_14 hJ hC hQ hin   M1 hw
  · replace hw := hw.2 hc
    refine G_iload_n (pc := 7) (i := 2) hC dX3_compare_7 rfl rfl ?_
    refine G_callS (pc := 8) (n := 1) (As := [.int p2]) (rest := []) hC (m_X3_isRegister hJ hw) (lw_S q3567 q3568 q108 q3569) hd_X3_isRegister.2 (by decide) rfl rfl (st_c cat_e (Nat.le_of_ble_eq_true rfl)) dX3_compare_8 (kI fun x4 M3 hw => ?_)
    refine G_if_ne (pc := 11) (tgt := 20) hC dX3_compare_11 (by decide) (fun hc => ?_) (fun hc => ?_)
    · replace hw := hw.1 hc
      refine G_aload_n (pc := 20) (i := 0) hC dX3_compare_20 rfl rfl ?_
      refine G_iconst (pc := 21) (v := 1) hC dX3_compare_21 (by decide) ?_
      refine G_put (pc := 22) (ci := 2) (C := RX3) (T := TX3) (N := 61) (f := 25) tyX3 hC rfl in_X3 tyX3_ok nmX3 (Nat.le_of_ble_eq_true rfl) q3399 (fun _ h => h) rfl rfl rfl dX3_compare_22 hw (fun M5 hw => ?_)
      refine G_aload_n (pc := 25) (i := 0) hC dX3_compare_25 rfl rfl ?_
      refine G_aload_n (pc := 26) (i := 0) hC dX3_compare_26 rfl rfl ?_
      refine G_iload_n (pc := 27) (i := 1) hC dX3_compare_27 rfl rfl ?_
      refine G_aload_n (pc := 28) (i := 0) hC dX3_compare_28 rfl rfl ?_
      refine G_getF (pc := 29) (ci := 2) (C := RX3) (T := TX3) (N := 61) (f := 26) hC rfl in_X3 (Nat.le_of_ble_eq_true rfl) q3400 (fun _ h => h) dX3_compare_29 hw (fun x6 hw => ?_)
      obtain ⟨hb, hw⟩ := hw
      refine G_callV (pc := 32) (n := 2) (C := "MergeWorkbenchModel") (b := a0) (As := [.int p1, va_rf x6]) (rest := [va_rf (some a0)]) hC (m_X3_takes hJ hw) (lw_V q3648 q3650 qs61 q108 q3651) hd_X3_takes (by decide) (rcv (C := RX3) (T := TX3) (N := 61) hC hb rfl) rfl rfl (st_c (cat_r cat_e) (Nat.le_of_ble_eq_true rfl)) dX3_compare_32 (kI fun x8 M7 hw => ?_)
      refine G_put (pc := 35) (ci := 2) (C := RX3) (T := TX3) (N := 61) (f := 27) tyX3 hC rfl in_X3 tyX3_ok nmX3 (Nat.le_of_ble_eq_true rfl) q3401 (fun _ h => h) rfl rfl rfl dX3_compare_35 hw (fun M9 hw => ?_)
      refine G_aload_n (pc := 38) (i := 0) hC dX3_compare_38 rfl rfl ?_
      refine G_aload_n (pc := 39) (i := 0) hC dX3_compare_39 rfl rfl ?_
      refine G_iload_n (pc := 40) (i := 2) hC dX3_compare_40 rfl rfl ?_
      refine G_aload_n (pc := 41) (i := 0) hC dX3_compare_41 rfl rfl ?_
      refine G_getF (pc := 42) (ci := 2) (C := RX3) (T := TX3) (N := 61) (f := 28) hC rfl in_X3 (Nat.le_of_ble_eq_true rfl) q3402 (fun _ h => h) dX3_compare_42 hw (fun x10 hw => ?_)
      obtain ⟨hb, hw⟩ := hw
      refine G_callV (pc := 45) (n := 2) (C := "MergeWorkbenchModel") (b := a0) (As := [.int p2, va_rf x10]) (rest := [va_rf (some a0)]) hC (m_X3_takes hJ hw) (lw_V q3648 q3650 qs61 q108 q3651) hd_X3_takes (by decide) (rcv (C := RX3) (T := TX3) (N := 61) hC hb rfl) rfl rfl (st_c (cat_r cat_e) (Nat.le_of_ble_eq_true rfl)) dX3_compare_45 (kI fun x12 M11 hw => ?_)
      refine G_put (pc := 48) (ci := 2) (C := RX3) (T := TX3) (N := 61) (f := 29) tyX3 hC rfl in_X3 tyX3_ok nmX3 (Nat.le_of_ble_eq_true rfl) q3403 (fun _ h => h) rfl rfl rfl dX3_compare_48 hw (fun M13 hw => ?_)
      refine G_aload_n (pc := 51) (i := 0) hC dX3_compare_51 rfl rfl ?_
      refine G_aload_n (pc := 52) (i := 0) hC dX3_compare_52 rfl rfl ?_
      refine G_getF (pc := 53) (ci := 2) (C := RX3) (T := TX3) (N := 61) (f := 26) hC rfl in_X3 (Nat.le_of_ble_eq_true rfl) q3400 (fun _ h => h) dX3_compare_53 hw (fun x14 hw => ?_)
      refine G_aload_n (pc := 56) (i := 0) hC dX3_compare_56 rfl rfl ?_
      refine G_getI (pc := 57) (ci := 2) (C := RX3) (T := TX3) (N := 61) (f := 27) hC rfl in_X3 (Nat.le_of_ble_eq_true rfl) q3401 (fun _ h => h) dX3_compare_57 hw (fun x15 hw => ?_)
      refine G_aload_n (pc := 60) (i := 0) hC dX3_compare_60 rfl rfl ?_
      refine G_getF (pc := 61) (ci := 2) (C := RX3) (T := TX3) (N := 61) (f := 28) hC rfl in_X3 (Nat.le_of_ble_eq_true rfl) q3402 (fun _ h => h) dX3_compare_61 hw (fun x16 hw => ?_)
      refine G_aload_n (pc := 64) (i := 0) hC dX3_compare_64 rfl rfl ?_
      refine G_getI (pc := 65) (ci := 2) (C := RX3) (T := TX3) (N := 61) (f := 29) hC rfl in_X3 (Nat.le_of_ble_eq_true rfl) q3403 (fun _ h => h) dX3_compare_65 hw (fun x17 hw => ?_)
      refine G_aload_n (pc := 68) (i := 0) hC dX3_compare_68 rfl rfl ?_
      refine G_getF (pc := 69) (ci := 2) (C := RX3) (T := TX3) (N := 61) (f := 30) hC rfl in_X3 (Nat.le_of_ble_eq_true rfl) q3404 (fun _ h => h) dX3_compare_69 hw (fun x18 hw => ?_)
      obtain ⟨hb, hw⟩ := hw
      refine G_callV (pc := 72) (n := 5) (C := "MergeWorkbenchModel") (b := a0) (As := [va_rf x14, .int x15, va_rf x16, .int x17, va_rf x18]) (rest := []) hC (m_X3_aligns hJ hw) (lw_V q3671 q3673 qs64 q108 q3674) hd_X3_aligns (by decide) (rcv (C := RX3) (T := TX3) (N := 61) hC hb rfl) rfl rfl (st_c cat_e (Nat.le_of_ble_eq_true rfl)) dX3_compare_72 (kU fun M19 hw => ?_)
      refine G_aload_n (pc := 75) (i := 0) hC dX3_compare_75 rfl rfl ?_
      refine G_aload_n (pc := 76) (i := 0) hC dX3_compare_76 rfl rfl ?_
      refine G_getI (pc := 77) (ci := 2) (C := RX3) (T := TX3) (N := 61) (f := 22) hC rfl in_X3 (Nat.le_of_ble_eq_true rfl) q3396 (fun _ h => h) dX3_compare_77 hw (fun x20 hw => ?_)
      refine G_put (pc := 80) (ci := 2) (C := RX3) (T := TX3) (N := 61) (f := 31) tyX3 hC rfl in_X3 tyX3_ok nmX3 (Nat.le_of_ble_eq_true rfl) q3405 (fun _ h => h) rfl rfl rfl dX3_compare_80 hw (fun M21 hw => ?_)
      refine G_aload_n (pc := 83) (i := 0) hC dX3_compare_83 rfl rfl ?_
      refine G_iconst (pc := 84) (v := 0) hC dX3_compare_84 (by decide) ?_
      refine G_put (pc := 85) (ci := 2) (C := RX3) (T := TX3) (N := 61) (f := 33) tyX3 hC rfl in_X3 tyX3_ok nmX3 (Nat.le_of_ble_eq_true rfl) q3407 (fun _ h => h) rfl rfl rfl dX3_compare_85 hw (fun M22 hw => ?_)
      refine G_aload_n (pc := 88) (i := 0) hC dX3_compare_88 rfl rfl ?_
      obtain ⟨hb, hw⟩ := hw
      refine G_callV (pc := 89) (n := 0) (C := "MergeWorkbenchModel") (b := a0) (As := []) (rest := []) hC (m_X3_tellParts hJ hw) (lw_V q3686 q3688 qs67 q108 q3689) hd_X3_tellParts (by decide) (rcv (C := RX3) (T := TX3) (N := 61) hC hb rfl) rfl rfl (st_c cat_e (Nat.le_of_ble_eq_true rfl)) dX3_compare_89 (kU fun M23 hw => ?_)
      refine G_aload_n (pc := 92) (i := 0) hC dX3_compare_92 rfl rfl ?_
      refine G_aload_n (pc := 93) (i := 0) hC dX3_compare_93 rfl rfl ?_
      obtain ⟨hb, hw⟩ := hw
      refine G_callV (pc := 94) (n := 0) (C := "MergeWorkbenchModel") (b := a0) (As := []) (rest := [va_rf (some a0)]) hC (m_X3_pairMany hJ hw) (lw_V q3690 q3692 qs68 q108 q3693) hd_X3_pairMany (by decide) (rcv (C := RX3) (T := TX3) (N := 61) hC hb rfl) rfl rfl (st_c (cat_r cat_e) (Nat.le_of_ble_eq_true rfl)) dX3_compare_94 (kI fun x25 M24 hw => ?_)
      obtain ⟨hb, hw⟩ := hw
      refine G_callV (pc := 97) (n := 1) (C := "MergeWorkbenchModel") (b := a0) (As := [.int x25]) (rest := []) hC (m_X3_done hJ hw) (lw_V q3581 q3583 qs54 q108 q3584) hd_X3_done (by decide) (rcv (C := RX3) (T := TX3) (N := 61) hC hb rfl) rfl rfl (st_c cat_e (Nat.le_of_ble_eq_true rfl)) dX3_compare_97 (kI fun x27 M26 hw => ?_)
      exact G_iret (pc := 100) hC rfl hQ dX3_compare_100 hw
    · replace hw := hw.2 hc
      exact g_X3_compare_14 hJ hC hQ hin   M3 hw
def w_X3_partner_45 (g : gT) (F : Nat) (a0 : Nat) (p1 : Int32) (Q : Int32 → hM → Prop) (s0 : Int32) (M : hM) : Prop :=
  Q s0 M
def w_X3_partner (g : gT) (F : Nat) (a0 : Nat) (p1 : Int32) (M : hM) (Q : Int32 → hM → Prop) : Prop :=
  gI M (some a0) 2 25 fun x1 => ((¬ x1 = 0 → gI M (some a0) 2 27 fun x2 => w_X3_in g F p1 (0 : Int32) (x2 - (1 : Int32)) M (fun x4 M3 => ((x4 = 0 → (isC M3 a0 2 ∧ w_X3_fails g F a0 (2 : Int32) M3 (fun x6 M5 => w_X3_partner_45 g F a0 p1 Q x6 M5))) ∧ (¬ (x4 = 0) → gF M3 (some a0) 2 30 fun x7 => aI M3 x7 0 p1 fun x8 => (isC M3 a0 2 ∧ w_X3_done g F a0 x8 M3 (fun x10 M9 => w_X3_partner_45 g F a0 p1 Q x10 M9)))))) ∧ (x1 = 0 → (isC M a0 2 ∧ w_X3_fails g F a0 (1 : Int32) M (fun x12 M11 => Q x12 M11))))
theorem g_X3_partner_45 {k : kT} {F : Nat} {a0 : Nat} {p1 : Int32} {Q : Int32 → hM → Prop} (hJ : JOK (kl k) (kg k)) (hC : CX k 2 cX3_partner RX3 (some .int) 2 34) (hQ : isQ k (PI Q)) (hin : (kt k).name = "partner") : ∀ (s0 : Int32) (M : hM), w_X3_partner_45 (kg k) F a0 p1 Q s0 M → GW k 2 M 45 [some (va_rf (some a0)), some (.int p1)] [.int s0] := by
  intro s0 M hw
  exact G_iret (pc := 45) hC rfl hQ dX3_partner_45 hw
theorem m_X3_partner {l : Launch} {g : gT} {F : Nat} {a0 : Nat} {p1 : Int32} {M : hM} {Q : Int32 → hM → Prop} (hJ : JOK l g) (hw : w_X3_partner g F a0 p1 M Q) : MG l g yX3_partner (ws_ yX3_partner cX3_partner 2 (some .int)) 2 34 [va_rf (some a0), .int p1] M (PI Q) := by
  refine MG_of hJ.2.1 (by decide) (cat_r (cat_i cat_e)) (Nat.le_of_ble_eq_true rfl) (fun k hl hg hin hQ hC => ?_)
  subst hl hg
  show GW k 2 M 0 [some (va_rf (some a0)), some (.int p1)] []
  refine G_aload_n (pc := 0) (i := 0) hC dX3_partner_0 rfl rfl ?_
  refine G_getI (pc := 1) (ci := 2) (C := RX3) (T := TX3) (N := 61) (f := 25) hC rfl in_X3 (Nat.le_of_ble_eq_true rfl) q3399 (fun _ h => h) dX3_partner_1 hw (fun x1 hw => ?_)
  refine G_if_ne (pc := 4) (tgt := 13) hC dX3_partner_4 (by decide) (fun hc => ?_) (fun hc => ?_)
  · replace hw := hw.1 hc
    refine G_iload_n (pc := 13) (i := 1) hC dX3_partner_13 rfl rfl ?_
    refine G_iconst (pc := 14) (v := 0) hC dX3_partner_14 (by decide) ?_
    refine G_aload_n (pc := 15) (i := 0) hC dX3_partner_15 rfl rfl ?_
    refine G_getI (pc := 16) (ci := 2) (C := RX3) (T := TX3) (N := 61) (f := 27) hC rfl in_X3 (Nat.le_of_ble_eq_true rfl) q3401 (fun _ h => h) dX3_partner_16 hw (fun x2 hw => ?_)
    refine G_iconst (pc := 19) (v := 1) hC dX3_partner_19 (by decide) ?_
    refine G_isub (pc := 20) hC dX3_partner_20 ?_
    refine G_callS (pc := 21) (n := 3) (As := [.int p1, .int (0 : Int32), .int (x2 - (1 : Int32))]) (rest := []) hC (m_X3_in hJ hw) (lw_S q3570 q3571 q108 q3572) hd_X3_in.2 (by decide) rfl rfl (st_c cat_e (Nat.le_of_ble_eq_true rfl)) dX3_partner_21 (kI fun x4 M3 hw => ?_)
    refine G_if_eq (pc := 24) (tgt := 40) hC dX3_partner_24 (by decide) (fun hc => ?_) (fun hc => ?_)
    · replace hw := hw.1 hc
      refine G_aload_n (pc := 40) (i := 0) hC dX3_partner_40 rfl rfl ?_
      refine G_iconst (pc := 41) (v := 2) hC dX3_partner_41 (by decide) ?_
      obtain ⟨hb, hw⟩ := hw
      refine G_callV (pc := 42) (n := 1) (C := "MergeWorkbenchModel") (b := a0) (As := [.int (2 : Int32)]) (rest := []) hC (m_X3_fails hJ hw) (lw_V q3573 q3575 qs52 q108 q3576) hd_X3_fails (by decide) (rcv (C := RX3) (T := TX3) (N := 61) hC hb rfl) rfl rfl (st_c cat_e (Nat.le_of_ble_eq_true rfl)) dX3_partner_42 (kI fun x6 M5 hw => ?_)
      exact g_X3_partner_45 hJ hC hQ hin  x6 M5 hw
    · replace hw := hw.2 hc
      refine G_aload_n (pc := 27) (i := 0) hC dX3_partner_27 rfl rfl ?_
      refine G_aload_n (pc := 28) (i := 0) hC dX3_partner_28 rfl rfl ?_
      refine G_getF (pc := 29) (ci := 2) (C := RX3) (T := TX3) (N := 61) (f := 30) hC rfl in_X3 (Nat.le_of_ble_eq_true rfl) q3404 (fun _ h => h) dX3_partner_29 hw (fun x7 hw => ?_)
      refine G_iload_n (pc := 32) (i := 1) hC dX3_partner_32 rfl rfl ?_
      refine G_iald (pc := 33) hC dX3_partner_33 hw (fun x8 hw => ?_)
      obtain ⟨hb, hw⟩ := hw
      refine G_callV (pc := 34) (n := 1) (C := "MergeWorkbenchModel") (b := a0) (As := [.int x8]) (rest := []) hC (m_X3_done hJ hw) (lw_V q3581 q3583 qs54 q108 q3584) hd_X3_done (by decide) (rcv (C := RX3) (T := TX3) (N := 61) hC hb rfl) rfl rfl (st_c cat_e (Nat.le_of_ble_eq_true rfl)) dX3_partner_34 (kI fun x10 M9 hw => ?_)
      refine G_goto (pc := 37) (tgt := 45) hC dX3_partner_37 (by decide) ?_
      exact g_X3_partner_45 hJ hC hQ hin  x10 M9 hw
  · replace hw := hw.2 hc
    refine G_aload_n (pc := 7) (i := 0) hC dX3_partner_7 rfl rfl ?_
    refine G_iconst (pc := 8) (v := 1) hC dX3_partner_8 (by decide) ?_
    obtain ⟨hb, hw⟩ := hw
    refine G_callV (pc := 9) (n := 1) (C := "MergeWorkbenchModel") (b := a0) (As := [.int (1 : Int32)]) (rest := []) hC (m_X3_fails hJ hw) (lw_V q3573 q3575 qs52 q108 q3576) hd_X3_fails (by decide) (rcv (C := RX3) (T := TX3) (N := 61) hC hb rfl) rfl rfl (st_c cat_e (Nat.le_of_ble_eq_true rfl)) dX3_partner_9 (kI fun x12 M11 hw => ?_)
    exact G_iret (pc := 12) hC rfl hQ dX3_partner_12 hw
def w_X3_anchors_23 (g : gT) (F : Nat) (a0 : Nat) (Q : Int32 → hM → Prop) (s0 : Int32) (M : hM) : Prop :=
  Q s0 M
def w_X3_anchors (g : gT) (F : Nat) (a0 : Nat) (M : hM) (Q : Int32 → hM → Prop) : Prop :=
  gI M (some a0) 2 25 fun x1 => ((x1 = 0 → (isC M a0 2 ∧ w_X3_fails g F a0 (1 : Int32) M (fun x3 M2 => w_X3_anchors_23 g F a0 Q x3 M2))) ∧ (¬ (x1 = 0) → gI M (some a0) 2 31 fun x4 => (isC M a0 2 ∧ w_X3_done g F a0 x4 M (fun x6 M5 => w_X3_anchors_23 g F a0 Q x6 M5))))
theorem g_X3_anchors_23 {k : kT} {F : Nat} {a0 : Nat} {Q : Int32 → hM → Prop} (hJ : JOK (kl k) (kg k)) (hC : CX k 1 cX3_anchors RX3 (some .int) 2 33) (hQ : isQ k (PI Q)) (hin : (kt k).name = "anchors") : ∀ (s0 : Int32) (M : hM), w_X3_anchors_23 (kg k) F a0 Q s0 M → GW k 1 M 23 [some (va_rf (some a0))] [.int s0] := by
  intro s0 M hw
  exact G_iret (pc := 23) hC rfl hQ dX3_anchors_23 hw
theorem m_X3_anchors {l : Launch} {g : gT} {F : Nat} {a0 : Nat} {M : hM} {Q : Int32 → hM → Prop} (hJ : JOK l g) (hw : w_X3_anchors g F a0 M Q) : MG l g yX3_anchors (ws_ yX3_anchors cX3_anchors 1 (some .int)) 2 33 [va_rf (some a0)] M (PI Q) := by
  refine MG_of hJ.2.1 (by decide) (cat_r cat_e) (Nat.le_of_ble_eq_true rfl) (fun k hl hg hin hQ hC => ?_)
  subst hl hg
  show GW k 1 M 0 [some (va_rf (some a0))] []
  refine G_aload_n (pc := 0) (i := 0) hC dX3_anchors_0 rfl rfl ?_
  refine G_getI (pc := 1) (ci := 2) (C := RX3) (T := TX3) (N := 61) (f := 25) hC rfl in_X3 (Nat.le_of_ble_eq_true rfl) q3399 (fun _ h => h) dX3_anchors_1 hw (fun x1 hw => ?_)
  refine G_if_eq (pc := 4) (tgt := 18) hC dX3_anchors_4 (by decide) (fun hc => ?_) (fun hc => ?_)
  · replace hw := hw.1 hc
    refine G_aload_n (pc := 18) (i := 0) hC dX3_anchors_18 rfl rfl ?_
    refine G_iconst (pc := 19) (v := 1) hC dX3_anchors_19 (by decide) ?_
    obtain ⟨hb, hw⟩ := hw
    refine G_callV (pc := 20) (n := 1) (C := "MergeWorkbenchModel") (b := a0) (As := [.int (1 : Int32)]) (rest := []) hC (m_X3_fails hJ hw) (lw_V q3573 q3575 qs52 q108 q3576) hd_X3_fails (by decide) (rcv (C := RX3) (T := TX3) (N := 61) hC hb rfl) rfl rfl (st_c cat_e (Nat.le_of_ble_eq_true rfl)) dX3_anchors_20 (kI fun x3 M2 hw => ?_)
    exact g_X3_anchors_23 hJ hC hQ hin  x3 M2 hw
  · replace hw := hw.2 hc
    refine G_aload_n (pc := 7) (i := 0) hC dX3_anchors_7 rfl rfl ?_
    refine G_aload_n (pc := 8) (i := 0) hC dX3_anchors_8 rfl rfl ?_
    refine G_getI (pc := 9) (ci := 2) (C := RX3) (T := TX3) (N := 61) (f := 31) hC rfl in_X3 (Nat.le_of_ble_eq_true rfl) q3405 (fun _ h => h) dX3_anchors_9 hw (fun x4 hw => ?_)
    obtain ⟨hb, hw⟩ := hw
    refine G_callV (pc := 12) (n := 1) (C := "MergeWorkbenchModel") (b := a0) (As := [.int x4]) (rest := []) hC (m_X3_done hJ hw) (lw_V q3581 q3583 qs54 q108 q3584) hd_X3_done (by decide) (rcv (C := RX3) (T := TX3) (N := 61) hC hb rfl) rfl rfl (st_c cat_e (Nat.le_of_ble_eq_true rfl)) dX3_anchors_12 (kI fun x6 M5 hw => ?_)
    refine G_goto (pc := 15) (tgt := 23) hC dX3_anchors_15 (by decide) ?_
    exact g_X3_anchors_23 hJ hC hQ hin  x6 M5 hw
def w_X3_differences_23 (g : gT) (F : Nat) (a0 : Nat) (Q : Int32 → hM → Prop) (s0 : Int32) (M : hM) : Prop :=
  Q s0 M
def w_X3_differences (g : gT) (F : Nat) (a0 : Nat) (M : hM) (Q : Int32 → hM → Prop) : Prop :=
  gI M (some a0) 2 25 fun x1 => ((x1 = 0 → (isC M a0 2 ∧ w_X3_fails g F a0 (1 : Int32) M (fun x3 M2 => w_X3_differences_23 g F a0 Q x3 M2))) ∧ (¬ (x1 = 0) → gI M (some a0) 2 35 fun x4 => (isC M a0 2 ∧ w_X3_done g F a0 x4 M (fun x6 M5 => w_X3_differences_23 g F a0 Q x6 M5))))
theorem g_X3_differences_23 {k : kT} {F : Nat} {a0 : Nat} {Q : Int32 → hM → Prop} (hJ : JOK (kl k) (kg k)) (hC : CX k 1 cX3_differences RX3 (some .int) 2 33) (hQ : isQ k (PI Q)) (hin : (kt k).name = "differences") : ∀ (s0 : Int32) (M : hM), w_X3_differences_23 (kg k) F a0 Q s0 M → GW k 1 M 23 [some (va_rf (some a0))] [.int s0] := by
  intro s0 M hw
  exact G_iret (pc := 23) hC rfl hQ dX3_differences_23 hw
theorem m_X3_differences {l : Launch} {g : gT} {F : Nat} {a0 : Nat} {M : hM} {Q : Int32 → hM → Prop} (hJ : JOK l g) (hw : w_X3_differences g F a0 M Q) : MG l g yX3_differences (ws_ yX3_differences cX3_differences 1 (some .int)) 2 33 [va_rf (some a0)] M (PI Q) := by
  refine MG_of hJ.2.1 (by decide) (cat_r cat_e) (Nat.le_of_ble_eq_true rfl) (fun k hl hg hin hQ hC => ?_)
  subst hl hg
  show GW k 1 M 0 [some (va_rf (some a0))] []
  refine G_aload_n (pc := 0) (i := 0) hC dX3_differences_0 rfl rfl ?_
  refine G_getI (pc := 1) (ci := 2) (C := RX3) (T := TX3) (N := 61) (f := 25) hC rfl in_X3 (Nat.le_of_ble_eq_true rfl) q3399 (fun _ h => h) dX3_differences_1 hw (fun x1 hw => ?_)
  refine G_if_eq (pc := 4) (tgt := 18) hC dX3_differences_4 (by decide) (fun hc => ?_) (fun hc => ?_)
  · replace hw := hw.1 hc
    refine G_aload_n (pc := 18) (i := 0) hC dX3_differences_18 rfl rfl ?_
    refine G_iconst (pc := 19) (v := 1) hC dX3_differences_19 (by decide) ?_
    obtain ⟨hb, hw⟩ := hw
    refine G_callV (pc := 20) (n := 1) (C := "MergeWorkbenchModel") (b := a0) (As := [.int (1 : Int32)]) (rest := []) hC (m_X3_fails hJ hw) (lw_V q3573 q3575 qs52 q108 q3576) hd_X3_fails (by decide) (rcv (C := RX3) (T := TX3) (N := 61) hC hb rfl) rfl rfl (st_c cat_e (Nat.le_of_ble_eq_true rfl)) dX3_differences_20 (kI fun x3 M2 hw => ?_)
    exact g_X3_differences_23 hJ hC hQ hin  x3 M2 hw
  · replace hw := hw.2 hc
    refine G_aload_n (pc := 7) (i := 0) hC dX3_differences_7 rfl rfl ?_
    refine G_aload_n (pc := 8) (i := 0) hC dX3_differences_8 rfl rfl ?_
    refine G_getI (pc := 9) (ci := 2) (C := RX3) (T := TX3) (N := 61) (f := 35) hC rfl in_X3 (Nat.le_of_ble_eq_true rfl) q3409 (fun _ h => h) dX3_differences_9 hw (fun x4 hw => ?_)
    obtain ⟨hb, hw⟩ := hw
    refine G_callV (pc := 12) (n := 1) (C := "MergeWorkbenchModel") (b := a0) (As := [.int x4]) (rest := []) hC (m_X3_done hJ hw) (lw_V q3581 q3583 qs54 q108 q3584) hd_X3_done (by decide) (rcv (C := RX3) (T := TX3) (N := 61) hC hb rfl) rfl rfl (st_c cat_e (Nat.le_of_ble_eq_true rfl)) dX3_differences_12 (kI fun x6 M5 hw => ?_)
    refine G_goto (pc := 15) (tgt := 23) hC dX3_differences_15 (by decide) ?_
    exact g_X3_differences_23 hJ hC hQ hin  x6 M5 hw
def w_X3_difference_64 (g : gT) (F : Nat) (a0 : Nat) (p1 : Int32) (p2 : Int32) (Q : Int32 → hM → Prop) (s0 : Int32) (M : hM) : Prop :=
  Q s0 M
def w_X3_difference (g : gT) (F : Nat) (a0 : Nat) (p1 : Int32) (p2 : Int32) (M : hM) (Q : Int32 → hM → Prop) : Prop :=
  gI M (some a0) 2 25 fun x1 => ((¬ x1 = 0 → gI M (some a0) 2 35 fun x2 => w_X3_in g F p1 (0 : Int32) (x2 - (1 : Int32)) M (fun x4 M3 => ((¬ x4 = 0 → w_X3_in g F p2 (0 : Int32) (3 : Int32) M3 (fun x6 M5 => ((x6 = 0 → (isC M5 a0 2 ∧ w_X3_fails g F a0 (3 : Int32) M5 (fun x8 M7 => w_X3_difference_64 g F a0 p1 p2 Q x8 M7))) ∧ (¬ (x6 = 0) → gF M5 (some a0) 2 34 fun x9 => aI M5 x9 0 (((4 : Int32) * p1) + p2) fun x10 => (isC M5 a0 2 ∧ w_X3_done g F a0 x10 M5 (fun x12 M11 => w_X3_difference_64 g F a0 p1 p2 Q x12 M11)))))) ∧ (x4 = 0 → (isC M3 a0 2 ∧ w_X3_fails g F a0 (2 : Int32) M3 (fun x14 M13 => Q x14 M13)))))) ∧ (x1 = 0 → (isC M a0 2 ∧ w_X3_fails g F a0 (1 : Int32) M (fun x16 M15 => Q x16 M15))))
theorem g_X3_difference_64 {k : kT} {F : Nat} {a0 : Nat} {p1 : Int32} {p2 : Int32} {Q : Int32 → hM → Prop} (hJ : JOK (kl k) (kg k)) (hC : CX k 3 cX3_difference RX3 (some .int) 2 34) (hQ : isQ k (PI Q)) (hin : (kt k).name = "difference") : ∀ (s0 : Int32) (M : hM), w_X3_difference_64 (kg k) F a0 p1 p2 Q s0 M → GW k 3 M 64 [some (va_rf (some a0)), some (.int p1), some (.int p2)] [.int s0] := by
  intro s0 M hw
  exact G_iret (pc := 64) hC rfl hQ dX3_difference_64 hw
theorem m_X3_difference {l : Launch} {g : gT} {F : Nat} {a0 : Nat} {p1 : Int32} {p2 : Int32} {M : hM} {Q : Int32 → hM → Prop} (hJ : JOK l g) (hw : w_X3_difference g F a0 p1 p2 M Q) : MG l g yX3_difference (ws_ yX3_difference cX3_difference 3 (some .int)) 2 34 [va_rf (some a0), .int p1, .int p2] M (PI Q) := by
  refine MG_of hJ.2.1 (by decide) (cat_r (cat_i (cat_i cat_e))) (Nat.le_of_ble_eq_true rfl) (fun k hl hg hin hQ hC => ?_)
  subst hl hg
  show GW k 3 M 0 [some (va_rf (some a0)), some (.int p1), some (.int p2)] []
  refine G_aload_n (pc := 0) (i := 0) hC dX3_difference_0 rfl rfl ?_
  refine G_getI (pc := 1) (ci := 2) (C := RX3) (T := TX3) (N := 61) (f := 25) hC rfl in_X3 (Nat.le_of_ble_eq_true rfl) q3399 (fun _ h => h) dX3_difference_1 hw (fun x1 hw => ?_)
  refine G_if_ne (pc := 4) (tgt := 13) hC dX3_difference_4 (by decide) (fun hc => ?_) (fun hc => ?_)
  · replace hw := hw.1 hc
    refine G_iload_n (pc := 13) (i := 1) hC dX3_difference_13 rfl rfl ?_
    refine G_iconst (pc := 14) (v := 0) hC dX3_difference_14 (by decide) ?_
    refine G_aload_n (pc := 15) (i := 0) hC dX3_difference_15 rfl rfl ?_
    refine G_getI (pc := 16) (ci := 2) (C := RX3) (T := TX3) (N := 61) (f := 35) hC rfl in_X3 (Nat.le_of_ble_eq_true rfl) q3409 (fun _ h => h) dX3_difference_16 hw (fun x2 hw => ?_)
    refine G_iconst (pc := 19) (v := 1) hC dX3_difference_19 (by decide) ?_
    refine G_isub (pc := 20) hC dX3_difference_20 ?_
    refine G_callS (pc := 21) (n := 3) (As := [.int p1, .int (0 : Int32), .int (x2 - (1 : Int32))]) (rest := []) hC (m_X3_in hJ hw) (lw_S q3570 q3571 q108 q3572) hd_X3_in.2 (by decide) rfl rfl (st_c cat_e (Nat.le_of_ble_eq_true rfl)) dX3_difference_21 (kI fun x4 M3 hw => ?_)
    refine G_if_ne (pc := 24) (tgt := 33) hC dX3_difference_24 (by decide) (fun hc => ?_) (fun hc => ?_)
    · replace hw := hw.1 hc
      refine G_iload_n (pc := 33) (i := 2) hC dX3_difference_33 rfl rfl ?_
      refine G_iconst (pc := 34) (v := 0) hC dX3_difference_34 (by decide) ?_
      refine G_iconst (pc := 35) (v := 3) hC dX3_difference_35 (by decide) ?_
      refine G_callS (pc := 36) (n := 3) (As := [.int p2, .int (0 : Int32), .int (3 : Int32)]) (rest := []) hC (m_X3_in hJ hw) (lw_S q3570 q3571 q108 q3572) hd_X3_in.2 (by decide) rfl rfl (st_c cat_e (Nat.le_of_ble_eq_true rfl)) dX3_difference_36 (kI fun x6 M5 hw => ?_)
      refine G_if_eq (pc := 39) (tgt := 59) hC dX3_difference_39 (by decide) (fun hc => ?_) (fun hc => ?_)
      · replace hw := hw.1 hc
        refine G_aload_n (pc := 59) (i := 0) hC dX3_difference_59 rfl rfl ?_
        refine G_iconst (pc := 60) (v := 3) hC dX3_difference_60 (by decide) ?_
        obtain ⟨hb, hw⟩ := hw
        refine G_callV (pc := 61) (n := 1) (C := "MergeWorkbenchModel") (b := a0) (As := [.int (3 : Int32)]) (rest := []) hC (m_X3_fails hJ hw) (lw_V q3573 q3575 qs52 q108 q3576) hd_X3_fails (by decide) (rcv (C := RX3) (T := TX3) (N := 61) hC hb rfl) rfl rfl (st_c cat_e (Nat.le_of_ble_eq_true rfl)) dX3_difference_61 (kI fun x8 M7 hw => ?_)
        exact g_X3_difference_64 hJ hC hQ hin  x8 M7 hw
      · replace hw := hw.2 hc
        refine G_aload_n (pc := 42) (i := 0) hC dX3_difference_42 rfl rfl ?_
        refine G_aload_n (pc := 43) (i := 0) hC dX3_difference_43 rfl rfl ?_
        refine G_getF (pc := 44) (ci := 2) (C := RX3) (T := TX3) (N := 61) (f := 34) hC rfl in_X3 (Nat.le_of_ble_eq_true rfl) q3408 (fun _ h => h) dX3_difference_44 hw (fun x9 hw => ?_)
        refine G_iconst (pc := 47) (v := 4) hC dX3_difference_47 (by decide) ?_
        refine G_iload_n (pc := 48) (i := 1) hC dX3_difference_48 rfl rfl ?_
        refine G_imul (pc := 49) hC dX3_difference_49 ?_
        refine G_iload_n (pc := 50) (i := 2) hC dX3_difference_50 rfl rfl ?_
        refine G_iadd (pc := 51) hC dX3_difference_51 ?_
        refine G_iald (pc := 52) hC dX3_difference_52 hw (fun x10 hw => ?_)
        obtain ⟨hb, hw⟩ := hw
        refine G_callV (pc := 53) (n := 1) (C := "MergeWorkbenchModel") (b := a0) (As := [.int x10]) (rest := []) hC (m_X3_done hJ hw) (lw_V q3581 q3583 qs54 q108 q3584) hd_X3_done (by decide) (rcv (C := RX3) (T := TX3) (N := 61) hC hb rfl) rfl rfl (st_c cat_e (Nat.le_of_ble_eq_true rfl)) dX3_difference_53 (kI fun x12 M11 hw => ?_)
        refine G_goto (pc := 56) (tgt := 64) hC dX3_difference_56 (by decide) ?_
        exact g_X3_difference_64 hJ hC hQ hin  x12 M11 hw
    · replace hw := hw.2 hc
      refine G_aload_n (pc := 27) (i := 0) hC dX3_difference_27 rfl rfl ?_
      refine G_iconst (pc := 28) (v := 2) hC dX3_difference_28 (by decide) ?_
      obtain ⟨hb, hw⟩ := hw
      refine G_callV (pc := 29) (n := 1) (C := "MergeWorkbenchModel") (b := a0) (As := [.int (2 : Int32)]) (rest := []) hC (m_X3_fails hJ hw) (lw_V q3573 q3575 qs52 q108 q3576) hd_X3_fails (by decide) (rcv (C := RX3) (T := TX3) (N := 61) hC hb rfl) rfl rfl (st_c cat_e (Nat.le_of_ble_eq_true rfl)) dX3_difference_29 (kI fun x14 M13 hw => ?_)
      exact G_iret (pc := 32) hC rfl hQ dX3_difference_32 hw
  · replace hw := hw.2 hc
    refine G_aload_n (pc := 7) (i := 0) hC dX3_difference_7 rfl rfl ?_
    refine G_iconst (pc := 8) (v := 1) hC dX3_difference_8 (by decide) ?_
    obtain ⟨hb, hw⟩ := hw
    refine G_callV (pc := 9) (n := 1) (C := "MergeWorkbenchModel") (b := a0) (As := [.int (1 : Int32)]) (rest := []) hC (m_X3_fails hJ hw) (lw_V q3573 q3575 qs52 q108 q3576) hd_X3_fails (by decide) (rcv (C := RX3) (T := TX3) (N := 61) hC hb rfl) rfl rfl (st_c cat_e (Nat.le_of_ble_eq_true rfl)) dX3_difference_9 (kI fun x16 M15 hw => ?_)
    exact G_iret (pc := 12) hC rfl hQ dX3_difference_12 hw
def w_X3_step_216 (g : gT) (F : Nat) (a0 : Nat) (p1 : Int32) (Q : Int32 → hM → Prop) (K20 : Int32 → Int32 → Int32 → hM → Prop) (v2 : Int32) (v4 : Int32) (s0 : Int32) (s1 : Int32) (M : hM) : Prop :=
  K20 v2 (s0 + s1) v4 M
def w_X3_step_202 (g : gT) (F : Nat) (a0 : Nat) (p1 : Int32) (Q : Int32 → hM → Prop) (K20 : Int32 → Int32 → Int32 → hM → Prop) (v2 : Int32) (v3 : Int32) (v6 : Int32) (s0 : Int32) (s1 : Int32) (M : hM) : Prop :=
  ((v6 = 0 → w_X3_step_216 g F a0 p1 Q K20 v2 (s0 + s1) v3 (1 : Int32) M) ∧ (¬ (v6 = 0) → w_X3_step_216 g F a0 p1 Q K20 v2 (s0 + s1) v3 (0 : Int32) M))
def w_X3_step_197 (g : gT) (F : Nat) (a0 : Nat) (p1 : Int32) (Q : Int32 → hM → Prop) (K20 : Int32 → Int32 → Int32 → hM → Prop) (v2 : Int32) (v3 : Int32) (v6 : Int32) (s0 : Int32) (M : hM) : Prop :=
  w_X3_step_202 g F a0 p1 Q K20 v2 v3 v6 s0 (1 : Int32) M
def w_X3_step_168 (g : gT) (F : Nat) (a0 : Nat) (p1 : Int32) (Q : Int32 → hM → Prop) (K20 : Int32 → Int32 → Int32 → hM → Prop) (v2 : Int32) (v3 : Int32) (v4 : Int32) (v5 : Int32) (v6 : Int32) (s0 : Int32) (M : hM) : Prop :=
  ((¬ v2 = p1 → ((¬ v5 = 0 → w_X3_step_197 g F a0 p1 Q K20 (v2 + (1 : Int32)) v3 v6 v4 M) ∧ (v5 = 0 → ((v6 = 0 → w_X3_step_202 g F a0 p1 Q K20 (v2 + (1 : Int32)) v3 v6 v4 (0 : Int32) M) ∧ (¬ (v6 = 0) → w_X3_step_197 g F a0 p1 Q K20 (v2 + (1 : Int32)) v3 v6 v4 M))))) ∧ (v2 = p1 → (isC M a0 2 ∧ w_X3_done g F a0 s0 M (fun x2 M1 => Q x2 M1))))
def w_X3_step_123 (g : gT) (F : Nat) (a0 : Nat) (p1 : Int32) (Q : Int32 → hM → Prop) (K20 : Int32 → Int32 → Int32 → hM → Prop) (v2 : Int32) (v3 : Int32) (v4 : Int32) (v5 : Int32) (s0 : Int32) (M : hM) : Prop :=
  ((v5 = 0 → ((s0 = 0 → gF M (some a0) 2 28 fun x1 => aI M x1 0 v3 fun x2 => w_X3_step_168 g F a0 p1 Q K20 v2 v3 v4 v5 s0 ((200 : Int32) + x2) M) ∧ (¬ (s0 = 0) → gF M (some a0) 2 26 fun x3 => aI M x3 0 v4 fun x4 => w_X3_step_168 g F a0 p1 Q K20 v2 v3 v4 v5 s0 ((100 : Int32) + x4) M))) ∧ (¬ (v5 = 0) → gF M (some a0) 2 26 fun x5 => aI M x5 0 v4 fun x6 => w_X3_step_168 g F a0 p1 Q K20 v2 v3 v4 v5 s0 x6 M))
def w_X3_step_122 (g : gT) (F : Nat) (a0 : Nat) (p1 : Int32) (Q : Int32 → hM → Prop) (K20 : Int32 → Int32 → Int32 → hM → Prop) (v2 : Int32) (v3 : Int32) (v4 : Int32) (v5 : Int32) (M : hM) : Prop :=
  w_X3_step_123 g F a0 p1 Q K20 v2 v3 v4 v5 (0 : Int32) M
def w_X3_step_113 (g : gT) (F : Nat) (a0 : Nat) (p1 : Int32) (Q : Int32 → hM → Prop) (K20 : Int32 → Int32 → Int32 → hM → Prop) (v2 : Int32) (v3 : Int32) (v4 : Int32) (v5 : Int32) (s0 : Option Nat) (s1 : Int32) (M : hM) : Prop :=
  aI M s0 0 s1 fun x1 => ((¬ x1 = (-1 : Int32) → w_X3_step_122 g F a0 p1 Q K20 v2 v3 v4 v5 M) ∧ (x1 = (-1 : Int32) → w_X3_step_123 g F a0 p1 Q K20 v2 v3 v4 v5 (1 : Int32) M))
def w_X3_step_83 (g : gT) (F : Nat) (a0 : Nat) (p1 : Int32) (Q : Int32 → hM → Prop) (K20 : Int32 → Int32 → Int32 → hM → Prop) (v2 : Int32) (v3 : Int32) (v4 : Int32) (s0 : Int32) (M : hM) : Prop :=
  gI M (some a0) 2 27 fun x1 => ((x1 ≤ v4 → w_X3_step_122 g F a0 p1 Q K20 v2 v3 v4 s0 M) ∧ (¬ (x1 ≤ v4) → gF M (some a0) 2 30 fun x2 => gI M (some a0) 2 27 fun x3 => ((x3 ≤ v4 → w_X3_step_113 g F a0 p1 Q K20 v2 v3 v4 s0 x2 (0 : Int32) M) ∧ (¬ (x3 ≤ v4) → w_X3_step_113 g F a0 p1 Q K20 v2 v3 v4 s0 x2 v4 M))))
def w_X3_step_82 (g : gT) (F : Nat) (a0 : Nat) (p1 : Int32) (Q : Int32 → hM → Prop) (K20 : Int32 → Int32 → Int32 → hM → Prop) (v2 : Int32) (v3 : Int32) (v4 : Int32) (M : hM) : Prop :=
  w_X3_step_83 g F a0 p1 Q K20 v2 v3 v4 (0 : Int32) M
def w_X3_step_65 (g : gT) (F : Nat) (a0 : Nat) (p1 : Int32) (Q : Int32 → hM → Prop) (K20 : Int32 → Int32 → Int32 → hM → Prop) (v2 : Int32) (v3 : Int32) (v4 : Int32) (s0 : Option Nat) (s1 : Int32) (M : hM) : Prop :=
  aI M s0 0 s1 fun x1 => ((¬ x1 = v3 → w_X3_step_82 g F a0 p1 Q K20 v2 v3 v4 M) ∧ (x1 = v3 → gI M (some a0) 2 29 fun x2 => ((x2 ≤ v3 → w_X3_step_82 g F a0 p1 Q K20 v2 v3 v4 M) ∧ (¬ (x2 ≤ v3) → w_X3_step_83 g F a0 p1 Q K20 v2 v3 v4 (1 : Int32) M))))
def w_X3_step_37 (g : gT) (F : Nat) (a0 : Nat) (p1 : Int32) (Q : Int32 → hM → Prop) (K20 : Int32 → Int32 → Int32 → hM → Prop) (v2 : Int32) (v3 : Int32) (v4 : Int32) (M : hM) : Prop :=
  gI M (some a0) 2 27 fun x1 => ((x1 ≤ v4 → w_X3_step_82 g F a0 p1 Q K20 v2 v3 v4 M) ∧ (¬ (x1 ≤ v4) → gF M (some a0) 2 30 fun x2 => gI M (some a0) 2 27 fun x3 => ((x3 ≤ v4 → w_X3_step_65 g F a0 p1 Q K20 v2 v3 v4 x2 (0 : Int32) M) ∧ (¬ (x3 ≤ v4) → w_X3_step_65 g F a0 p1 Q K20 v2 v3 v4 x2 v4 M))))
def w_X3_step_20 (g : gT) (F : Nat) (a0 : Nat) (p1 : Int32) (Q : Int32 → hM → Prop) : Nat → Int32 → Int32 → Int32 → hM → Prop
  | 0, _, _, _, _ => False
  | n + 1, v2, v3, v4, M => gI M (some a0) 2 27 fun x1 => ((v4 < x1 → w_X3_step_37 g F a0 p1 Q (fun v2 v3 v4 M => w_X3_step_20 g F a0 p1 Q n v2 v3 v4 M) v2 v3 v4 M) ∧ (¬ (v4 < x1) → gI M (some a0) 2 29 fun x2 => ((x2 ≤ v3 → (isC M a0 2 ∧ w_X3_fails g F a0 (2 : Int32) M (fun x4 M3 => Q x4 M3))) ∧ (¬ (x2 ≤ v3) → w_X3_step_37 g F a0 p1 Q (fun v2 v3 v4 M => w_X3_step_20 g F a0 p1 Q n v2 v3 v4 M) v2 v3 v4 M))))
def w_X3_step (g : gT) (F : Nat) (a0 : Nat) (p1 : Int32) (M : hM) (Q : Int32 → hM → Prop) : Prop :=
  gI M (some a0) 2 25 fun x1 => ((¬ x1 = 0 → w_X3_step_20 g F a0 p1 Q F (0 : Int32) (0 : Int32) (0 : Int32) M) ∧ (x1 = 0 → (isC M a0 2 ∧ w_X3_fails g F a0 (1 : Int32) M (fun x3 M2 => Q x3 M2))))
theorem g_X3_step_216 {k : kT} {F : Nat} {a0 : Nat} {p1 : Int32} {Q : Int32 → hM → Prop} {K20 : Int32 → Int32 → Int32 → hM → Prop} (hJ : JOK (kl k) (kg k)) (hC : CX k 8 cX3_step RX3 (some .int) 2 33) (hQ : isQ k (PI Q)) (hin : (kt k).name = "step") (hK20 : ∀ (v2 : Int32) (v3 : Int32) (v4 : Int32) (M : hM), K20 v2 v3 v4 M → GW k 8 M 20 [some (va_rf (some a0)), some (.int p1), some (.int v2), some (.int v3), some (.int v4), none, none, none] []) : ∀ (v2 : Int32) (v4 : Int32) (s0 : Int32) (s1 : Int32) (M : hM), w_X3_step_216 (kg k) F a0 p1 Q K20 v2 v4 s0 s1 M → GW k 8 M 216 [some (va_rf (some a0)), some (.int p1), some (.int v2), none, some (.int v4), none, none, none] [.int s1, .int s0] := by
  intro v2 v4 s0 s1 M hw
  refine G_iadd (pc := 216) hC dX3_step_216 ?_
  refine G_istore_n (pc := 217) (i := 3) (lw := [some (va_rf (some a0)), some (.int p1), some (.int v2), some (.int (s0 + s1)), some (.int v4), none, none, none]) hC dX3_step_217 rfl (Nat.le_of_ble_eq_true rfl) rfl ?_
  refine G_goto (pc := 218) (tgt := 20) hC dX3_step_218 (by decide) ?_
  exact hK20 v2 (s0 + s1) v4 M hw
theorem g_X3_step_202 {k : kT} {F : Nat} {a0 : Nat} {p1 : Int32} {Q : Int32 → hM → Prop} {K20 : Int32 → Int32 → Int32 → hM → Prop} (hJ : JOK (kl k) (kg k)) (hC : CX k 8 cX3_step RX3 (some .int) 2 33) (hQ : isQ k (PI Q)) (hin : (kt k).name = "step") (hK20 : ∀ (v2 : Int32) (v3 : Int32) (v4 : Int32) (M : hM), K20 v2 v3 v4 M → GW k 8 M 20 [some (va_rf (some a0)), some (.int p1), some (.int v2), some (.int v3), some (.int v4), none, none, none] []) : ∀ (v2 : Int32) (v3 : Int32) (v6 : Int32) (s0 : Int32) (s1 : Int32) (M : hM), w_X3_step_202 (kg k) F a0 p1 Q K20 v2 v3 v6 s0 s1 M → GW k 8 M 202 [some (va_rf (some a0)), some (.int p1), some (.int v2), some (.int v3), none, none, some (.int v6), none] [.int s1, .int s0] := by
  intro v2 v3 v6 s0 s1 M hw
  refine G_iadd (pc := 202) hC dX3_step_202 ?_
  refine G_istore (pc := 203) (i := 4) (lw := [some (va_rf (some a0)), some (.int p1), some (.int v2), some (.int v3), some (.int (s0 + s1)), none, some (.int v6), none]) hC dX3_step_203 (Nat.le_of_ble_eq_true rfl) rfl ?_
  refine G_iload_n (pc := 205) (i := 3) hC dX3_step_205 rfl rfl ?_
  refine G_iload (pc := 206) (i := 6) hC dX3_step_206 rfl ?_
  refine G_if_eq (pc := 208) (tgt := 215) hC dX3_step_208 (by decide) (fun hc => ?_) (fun hc => ?_)
  · replace hw := hw.1 hc
    refine G_iconst (pc := 215) (v := 1) hC dX3_step_215 (by decide) ?_
    refine G_loc (lv' := [some (va_rf (some a0)), some (.int p1), some (.int v2), none, some (.int (s0 + s1)), none, none, none]) ⟨Or.inr rfl, Or.inr rfl, Or.inr rfl, Or.inl rfl, Or.inr rfl, Or.inr rfl, Or.inl rfl, Or.inr rfl, trivial⟩ ?_
    exact g_X3_step_216 hJ hC hQ hin hK20  v2 (s0 + s1) v3 (1 : Int32) M hw
  · replace hw := hw.2 hc
    refine G_iconst (pc := 211) (v := 0) hC dX3_step_211 (by decide) ?_
    refine G_goto (pc := 212) (tgt := 216) hC dX3_step_212 (by decide) ?_
    refine G_loc (lv' := [some (va_rf (some a0)), some (.int p1), some (.int v2), none, some (.int (s0 + s1)), none, none, none]) ⟨Or.inr rfl, Or.inr rfl, Or.inr rfl, Or.inl rfl, Or.inr rfl, Or.inr rfl, Or.inl rfl, Or.inr rfl, trivial⟩ ?_
    exact g_X3_step_216 hJ hC hQ hin hK20  v2 (s0 + s1) v3 (0 : Int32) M hw
theorem g_X3_step_197 {k : kT} {F : Nat} {a0 : Nat} {p1 : Int32} {Q : Int32 → hM → Prop} {K20 : Int32 → Int32 → Int32 → hM → Prop} (hJ : JOK (kl k) (kg k)) (hC : CX k 8 cX3_step RX3 (some .int) 2 33) (hQ : isQ k (PI Q)) (hin : (kt k).name = "step") (hK20 : ∀ (v2 : Int32) (v3 : Int32) (v4 : Int32) (M : hM), K20 v2 v3 v4 M → GW k 8 M 20 [some (va_rf (some a0)), some (.int p1), some (.int v2), some (.int v3), some (.int v4), none, none, none] []) : ∀ (v2 : Int32) (v3 : Int32) (v6 : Int32) (s0 : Int32) (M : hM), w_X3_step_197 (kg k) F a0 p1 Q K20 v2 v3 v6 s0 M → GW k 8 M 197 [some (va_rf (some a0)), some (.int p1), some (.int v2), some (.int v3), none, none, some (.int v6), none] [.int s0] := by
  intro v2 v3 v6 s0 M hw
  refine G_iconst (pc := 197) (v := 1) hC dX3_step_197 (by decide) ?_
  refine G_goto (pc := 198) (tgt := 202) hC dX3_step_198 (by decide) ?_
  exact g_X3_step_202 hJ hC hQ hin hK20  v2 v3 v6 s0 (1 : Int32) M hw
theorem g_X3_step_168 {k : kT} {F : Nat} {a0 : Nat} {p1 : Int32} {Q : Int32 → hM → Prop} {K20 : Int32 → Int32 → Int32 → hM → Prop} (hJ : JOK (kl k) (kg k)) (hC : CX k 8 cX3_step RX3 (some .int) 2 33) (hQ : isQ k (PI Q)) (hin : (kt k).name = "step") (hK20 : ∀ (v2 : Int32) (v3 : Int32) (v4 : Int32) (M : hM), K20 v2 v3 v4 M → GW k 8 M 20 [some (va_rf (some a0)), some (.int p1), some (.int v2), some (.int v3), some (.int v4), none, none, none] []) : ∀ (v2 : Int32) (v3 : Int32) (v4 : Int32) (v5 : Int32) (v6 : Int32) (s0 : Int32) (M : hM), w_X3_step_168 (kg k) F a0 p1 Q K20 v2 v3 v4 v5 v6 s0 M → GW k 8 M 168 [some (va_rf (some a0)), some (.int p1), some (.int v2), some (.int v3), some (.int v4), some (.int v5), some (.int v6), none] [.int s0] := by
  intro v2 v3 v4 v5 v6 s0 M hw
  refine G_istore (pc := 168) (i := 7) (lw := [some (va_rf (some a0)), some (.int p1), some (.int v2), some (.int v3), some (.int v4), some (.int v5), some (.int v6), some (.int s0)]) hC dX3_step_168 (Nat.le_of_ble_eq_true rfl) rfl ?_
  refine G_iload_n (pc := 170) (i := 2) hC dX3_step_170 rfl rfl ?_
  refine G_iload_n (pc := 171) (i := 1) hC dX3_step_171 rfl rfl ?_
  refine G_icmp_ne (pc := 172) (tgt := 182) hC dX3_step_172 (by decide) (fun hc => ?_) (fun hc => ?_)
  · replace hw := hw.1 hc
    refine G_iinc (pc := 182) (i := 2) (v := (v2 + (1 : Int32))) (lw := [some (va_rf (some a0)), some (.int p1), some (.int (v2 + (1 : Int32))), some (.int v3), some (.int v4), some (.int v5), some (.int v6), some (.int s0)]) hC dX3_step_182 rfl (Nat.le_of_ble_eq_true rfl) rfl rfl ?_
    refine G_iload (pc := 185) (i := 4) hC dX3_step_185 rfl ?_
    refine G_iload (pc := 187) (i := 5) hC dX3_step_187 rfl ?_
    refine G_if_ne (pc := 189) (tgt := 197) hC dX3_step_189 (by decide) (fun hc => ?_) (fun hc => ?_)
    · replace hw := hw.1 hc
      refine G_loc (lv' := [some (va_rf (some a0)), some (.int p1), some (.int (v2 + (1 : Int32))), some (.int v3), none, none, some (.int v6), none]) ⟨Or.inr rfl, Or.inr rfl, Or.inr rfl, Or.inr rfl, Or.inl rfl, Or.inl rfl, Or.inr rfl, Or.inl rfl, trivial⟩ ?_
      exact g_X3_step_197 hJ hC hQ hin hK20  (v2 + (1 : Int32)) v3 v6 v4 M hw
    · replace hw := hw.2 hc
      refine G_iload (pc := 192) (i := 6) hC dX3_step_192 rfl ?_
      refine G_if_eq (pc := 194) (tgt := 201) hC dX3_step_194 (by decide) (fun hc => ?_) (fun hc => ?_)
      · replace hw := hw.1 hc
        refine G_iconst (pc := 201) (v := 0) hC dX3_step_201 (by decide) ?_
        refine G_loc (lv' := [some (va_rf (some a0)), some (.int p1), some (.int (v2 + (1 : Int32))), some (.int v3), none, none, some (.int v6), none]) ⟨Or.inr rfl, Or.inr rfl, Or.inr rfl, Or.inr rfl, Or.inl rfl, Or.inl rfl, Or.inr rfl, Or.inl rfl, trivial⟩ ?_
        exact g_X3_step_202 hJ hC hQ hin hK20  (v2 + (1 : Int32)) v3 v6 v4 (0 : Int32) M hw
      · replace hw := hw.2 hc
        refine G_loc (lv' := [some (va_rf (some a0)), some (.int p1), some (.int (v2 + (1 : Int32))), some (.int v3), none, none, some (.int v6), none]) ⟨Or.inr rfl, Or.inr rfl, Or.inr rfl, Or.inr rfl, Or.inl rfl, Or.inl rfl, Or.inr rfl, Or.inl rfl, trivial⟩ ?_
        exact g_X3_step_197 hJ hC hQ hin hK20  (v2 + (1 : Int32)) v3 v6 v4 M hw
  · replace hw := hw.2 hc
    refine G_aload_n (pc := 175) (i := 0) hC dX3_step_175 rfl rfl ?_
    refine G_iload (pc := 176) (i := 7) hC dX3_step_176 rfl ?_
    obtain ⟨hb, hw⟩ := hw
    refine G_callV (pc := 178) (n := 1) (C := "MergeWorkbenchModel") (b := a0) (As := [.int s0]) (rest := []) hC (m_X3_done hJ hw) (lw_V q3581 q3583 qs54 q108 q3584) hd_X3_done (by decide) (rcv (C := RX3) (T := TX3) (N := 61) hC hb rfl) rfl rfl (st_c cat_e (Nat.le_of_ble_eq_true rfl)) dX3_step_178 (kI fun x2 M1 hw => ?_)
    exact G_iret (pc := 181) hC rfl hQ dX3_step_181 hw
theorem g_X3_step_123 {k : kT} {F : Nat} {a0 : Nat} {p1 : Int32} {Q : Int32 → hM → Prop} {K20 : Int32 → Int32 → Int32 → hM → Prop} (hJ : JOK (kl k) (kg k)) (hC : CX k 8 cX3_step RX3 (some .int) 2 33) (hQ : isQ k (PI Q)) (hin : (kt k).name = "step") (hK20 : ∀ (v2 : Int32) (v3 : Int32) (v4 : Int32) (M : hM), K20 v2 v3 v4 M → GW k 8 M 20 [some (va_rf (some a0)), some (.int p1), some (.int v2), some (.int v3), some (.int v4), none, none, none] []) : ∀ (v2 : Int32) (v3 : Int32) (v4 : Int32) (v5 : Int32) (s0 : Int32) (M : hM), w_X3_step_123 (kg k) F a0 p1 Q K20 v2 v3 v4 v5 s0 M → GW k 8 M 123 [some (va_rf (some a0)), some (.int p1), some (.int v2), some (.int v3), some (.int v4), some (.int v5), none, none] [.int s0] := by
  intro v2 v3 v4 v5 s0 M hw
  refine G_istore (pc := 123) (i := 6) (lw := [some (va_rf (some a0)), some (.int p1), some (.int v2), some (.int v3), some (.int v4), some (.int v5), some (.int s0), none]) hC dX3_step_123 (Nat.le_of_ble_eq_true rfl) rfl ?_
  refine G_iload (pc := 125) (i := 5) hC dX3_step_125 rfl ?_
  refine G_if_eq (pc := 127) (tgt := 140) hC dX3_step_127 (by decide) (fun hc => ?_) (fun hc => ?_)
  · replace hw := hw.1 hc
    refine G_iload (pc := 140) (i := 6) hC dX3_step_140 rfl ?_
    refine G_if_eq (pc := 142) (tgt := 158) hC dX3_step_142 (by decide) (fun hc => ?_) (fun hc => ?_)
    · replace hw := hw.1 hc
      refine G_sipush (pc := 158) (v := 200) hC dX3_step_158 (by decide) ?_
      refine G_aload_n (pc := 161) (i := 0) hC dX3_step_161 rfl rfl ?_
      refine G_getF (pc := 162) (ci := 2) (C := RX3) (T := TX3) (N := 61) (f := 28) hC rfl in_X3 (Nat.le_of_ble_eq_true rfl) q3402 (fun _ h => h) dX3_step_162 hw (fun x1 hw => ?_)
      refine G_iload_n (pc := 165) (i := 3) hC dX3_step_165 rfl rfl ?_
      refine G_iald (pc := 166) hC dX3_step_166 hw (fun x2 hw => ?_)
      refine G_iadd (pc := 167) hC dX3_step_167 ?_
      exact g_X3_step_168 hJ hC hQ hin hK20  v2 v3 v4 v5 s0 ((200 : Int32) + x2) M hw
    · replace hw := hw.2 hc
      refine G_bipush (pc := 145) (v := 100) hC dX3_step_145 (by decide) ?_
      refine G_aload_n (pc := 147) (i := 0) hC dX3_step_147 rfl rfl ?_
      refine G_getF (pc := 148) (ci := 2) (C := RX3) (T := TX3) (N := 61) (f := 26) hC rfl in_X3 (Nat.le_of_ble_eq_true rfl) q3400 (fun _ h => h) dX3_step_148 hw (fun x3 hw => ?_)
      refine G_iload (pc := 151) (i := 4) hC dX3_step_151 rfl ?_
      refine G_iald (pc := 153) hC dX3_step_153 hw (fun x4 hw => ?_)
      refine G_iadd (pc := 154) hC dX3_step_154 ?_
      refine G_goto (pc := 155) (tgt := 168) hC dX3_step_155 (by decide) ?_
      exact g_X3_step_168 hJ hC hQ hin hK20  v2 v3 v4 v5 s0 ((100 : Int32) + x4) M hw
  · replace hw := hw.2 hc
    refine G_aload_n (pc := 130) (i := 0) hC dX3_step_130 rfl rfl ?_
    refine G_getF (pc := 131) (ci := 2) (C := RX3) (T := TX3) (N := 61) (f := 26) hC rfl in_X3 (Nat.le_of_ble_eq_true rfl) q3400 (fun _ h => h) dX3_step_131 hw (fun x5 hw => ?_)
    refine G_iload (pc := 134) (i := 4) hC dX3_step_134 rfl ?_
    refine G_iald (pc := 136) hC dX3_step_136 hw (fun x6 hw => ?_)
    refine G_goto (pc := 137) (tgt := 168) hC dX3_step_137 (by decide) ?_
    exact g_X3_step_168 hJ hC hQ hin hK20  v2 v3 v4 v5 s0 x6 M hw
theorem g_X3_step_122 {k : kT} {F : Nat} {a0 : Nat} {p1 : Int32} {Q : Int32 → hM → Prop} {K20 : Int32 → Int32 → Int32 → hM → Prop} (hJ : JOK (kl k) (kg k)) (hC : CX k 8 cX3_step RX3 (some .int) 2 33) (hQ : isQ k (PI Q)) (hin : (kt k).name = "step") (hK20 : ∀ (v2 : Int32) (v3 : Int32) (v4 : Int32) (M : hM), K20 v2 v3 v4 M → GW k 8 M 20 [some (va_rf (some a0)), some (.int p1), some (.int v2), some (.int v3), some (.int v4), none, none, none] []) : ∀ (v2 : Int32) (v3 : Int32) (v4 : Int32) (v5 : Int32) (M : hM), w_X3_step_122 (kg k) F a0 p1 Q K20 v2 v3 v4 v5 M → GW k 8 M 122 [some (va_rf (some a0)), some (.int p1), some (.int v2), some (.int v3), some (.int v4), some (.int v5), none, none] [] := by
  intro v2 v3 v4 v5 M hw
  refine G_iconst (pc := 122) (v := 0) hC dX3_step_122 (by decide) ?_
  exact g_X3_step_123 hJ hC hQ hin hK20  v2 v3 v4 v5 (0 : Int32) M hw
theorem g_X3_step_113 {k : kT} {F : Nat} {a0 : Nat} {p1 : Int32} {Q : Int32 → hM → Prop} {K20 : Int32 → Int32 → Int32 → hM → Prop} (hJ : JOK (kl k) (kg k)) (hC : CX k 8 cX3_step RX3 (some .int) 2 33) (hQ : isQ k (PI Q)) (hin : (kt k).name = "step") (hK20 : ∀ (v2 : Int32) (v3 : Int32) (v4 : Int32) (M : hM), K20 v2 v3 v4 M → GW k 8 M 20 [some (va_rf (some a0)), some (.int p1), some (.int v2), some (.int v3), some (.int v4), none, none, none] []) : ∀ (v2 : Int32) (v3 : Int32) (v4 : Int32) (v5 : Int32) (s0 : Option Nat) (s1 : Int32) (M : hM), w_X3_step_113 (kg k) F a0 p1 Q K20 v2 v3 v4 v5 s0 s1 M → GW k 8 M 113 [some (va_rf (some a0)), some (.int p1), some (.int v2), some (.int v3), some (.int v4), some (.int v5), none, none] [.int s1, va_rf s0] := by
  intro v2 v3 v4 v5 s0 s1 M hw
  refine G_iald (pc := 113) hC dX3_step_113 hw (fun x1 hw => ?_)
  refine G_iconst (pc := 114) (v := -1) hC dX3_step_114 (by decide) ?_
  refine G_icmp_ne (pc := 115) (tgt := 122) hC dX3_step_115 (by decide) (fun hc => ?_) (fun hc => ?_)
  · replace hw := hw.1 hc
    exact g_X3_step_122 hJ hC hQ hin hK20  v2 v3 v4 v5 M hw
  · replace hw := hw.2 hc
    refine G_iconst (pc := 118) (v := 1) hC dX3_step_118 (by decide) ?_
    refine G_goto (pc := 119) (tgt := 123) hC dX3_step_119 (by decide) ?_
    exact g_X3_step_123 hJ hC hQ hin hK20  v2 v3 v4 v5 (1 : Int32) M hw
theorem g_X3_step_83 {k : kT} {F : Nat} {a0 : Nat} {p1 : Int32} {Q : Int32 → hM → Prop} {K20 : Int32 → Int32 → Int32 → hM → Prop} (hJ : JOK (kl k) (kg k)) (hC : CX k 8 cX3_step RX3 (some .int) 2 33) (hQ : isQ k (PI Q)) (hin : (kt k).name = "step") (hK20 : ∀ (v2 : Int32) (v3 : Int32) (v4 : Int32) (M : hM), K20 v2 v3 v4 M → GW k 8 M 20 [some (va_rf (some a0)), some (.int p1), some (.int v2), some (.int v3), some (.int v4), none, none, none] []) : ∀ (v2 : Int32) (v3 : Int32) (v4 : Int32) (s0 : Int32) (M : hM), w_X3_step_83 (kg k) F a0 p1 Q K20 v2 v3 v4 s0 M → GW k 8 M 83 [some (va_rf (some a0)), some (.int p1), some (.int v2), some (.int v3), some (.int v4), none, none, none] [.int s0] := by
  intro v2 v3 v4 s0 M hw
  refine G_istore (pc := 83) (i := 5) (lw := [some (va_rf (some a0)), some (.int p1), some (.int v2), some (.int v3), some (.int v4), some (.int s0), none, none]) hC dX3_step_83 (Nat.le_of_ble_eq_true rfl) rfl ?_
  refine G_iload (pc := 85) (i := 4) hC dX3_step_85 rfl ?_
  refine G_aload_n (pc := 87) (i := 0) hC dX3_step_87 rfl rfl ?_
  refine G_getI (pc := 88) (ci := 2) (C := RX3) (T := TX3) (N := 61) (f := 27) hC rfl in_X3 (Nat.le_of_ble_eq_true rfl) q3401 (fun _ h => h) dX3_step_88 hw (fun x1 hw => ?_)
  refine G_icmp_ge (pc := 91) (tgt := 122) hC dX3_step_91 (by decide) (fun hc => ?_) (fun hc => ?_)
  · replace hw := hw.1 hc
    exact g_X3_step_122 hJ hC hQ hin hK20  v2 v3 v4 s0 M hw
  · replace hw := hw.2 hc
    refine G_aload_n (pc := 94) (i := 0) hC dX3_step_94 rfl rfl ?_
    refine G_getF (pc := 95) (ci := 2) (C := RX3) (T := TX3) (N := 61) (f := 30) hC rfl in_X3 (Nat.le_of_ble_eq_true rfl) q3404 (fun _ h => h) dX3_step_95 hw (fun x2 hw => ?_)
    refine G_iload (pc := 98) (i := 4) hC dX3_step_98 rfl ?_
    refine G_aload_n (pc := 100) (i := 0) hC dX3_step_100 rfl rfl ?_
    refine G_getI (pc := 101) (ci := 2) (C := RX3) (T := TX3) (N := 61) (f := 27) hC rfl in_X3 (Nat.le_of_ble_eq_true rfl) q3401 (fun _ h => h) dX3_step_101 hw (fun x3 hw => ?_)
    refine G_icmp_ge (pc := 104) (tgt := 112) hC dX3_step_104 (by decide) (fun hc => ?_) (fun hc => ?_)
    · replace hw := hw.1 hc
      refine G_iconst (pc := 112) (v := 0) hC dX3_step_112 (by decide) ?_
      exact g_X3_step_113 hJ hC hQ hin hK20  v2 v3 v4 s0 x2 (0 : Int32) M hw
    · replace hw := hw.2 hc
      refine G_iload (pc := 107) (i := 4) hC dX3_step_107 rfl ?_
      refine G_goto (pc := 109) (tgt := 113) hC dX3_step_109 (by decide) ?_
      exact g_X3_step_113 hJ hC hQ hin hK20  v2 v3 v4 s0 x2 v4 M hw
theorem g_X3_step_82 {k : kT} {F : Nat} {a0 : Nat} {p1 : Int32} {Q : Int32 → hM → Prop} {K20 : Int32 → Int32 → Int32 → hM → Prop} (hJ : JOK (kl k) (kg k)) (hC : CX k 8 cX3_step RX3 (some .int) 2 33) (hQ : isQ k (PI Q)) (hin : (kt k).name = "step") (hK20 : ∀ (v2 : Int32) (v3 : Int32) (v4 : Int32) (M : hM), K20 v2 v3 v4 M → GW k 8 M 20 [some (va_rf (some a0)), some (.int p1), some (.int v2), some (.int v3), some (.int v4), none, none, none] []) : ∀ (v2 : Int32) (v3 : Int32) (v4 : Int32) (M : hM), w_X3_step_82 (kg k) F a0 p1 Q K20 v2 v3 v4 M → GW k 8 M 82 [some (va_rf (some a0)), some (.int p1), some (.int v2), some (.int v3), some (.int v4), none, none, none] [] := by
  intro v2 v3 v4 M hw
  refine G_iconst (pc := 82) (v := 0) hC dX3_step_82 (by decide) ?_
  exact g_X3_step_83 hJ hC hQ hin hK20  v2 v3 v4 (0 : Int32) M hw
theorem g_X3_step_65 {k : kT} {F : Nat} {a0 : Nat} {p1 : Int32} {Q : Int32 → hM → Prop} {K20 : Int32 → Int32 → Int32 → hM → Prop} (hJ : JOK (kl k) (kg k)) (hC : CX k 8 cX3_step RX3 (some .int) 2 33) (hQ : isQ k (PI Q)) (hin : (kt k).name = "step") (hK20 : ∀ (v2 : Int32) (v3 : Int32) (v4 : Int32) (M : hM), K20 v2 v3 v4 M → GW k 8 M 20 [some (va_rf (some a0)), some (.int p1), some (.int v2), some (.int v3), some (.int v4), none, none, none] []) : ∀ (v2 : Int32) (v3 : Int32) (v4 : Int32) (s0 : Option Nat) (s1 : Int32) (M : hM), w_X3_step_65 (kg k) F a0 p1 Q K20 v2 v3 v4 s0 s1 M → GW k 8 M 65 [some (va_rf (some a0)), some (.int p1), some (.int v2), some (.int v3), some (.int v4), none, none, none] [.int s1, va_rf s0] := by
  intro v2 v3 v4 s0 s1 M hw
  refine G_iald (pc := 65) hC dX3_step_65 hw (fun x1 hw => ?_)
  refine G_iload_n (pc := 66) (i := 3) hC dX3_step_66 rfl rfl ?_
  refine G_icmp_ne (pc := 67) (tgt := 82) hC dX3_step_67 (by decide) (fun hc => ?_) (fun hc => ?_)
  · replace hw := hw.1 hc
    exact g_X3_step_82 hJ hC hQ hin hK20  v2 v3 v4 M hw
  · replace hw := hw.2 hc
    refine G_iload_n (pc := 70) (i := 3) hC dX3_step_70 rfl rfl ?_
    refine G_aload_n (pc := 71) (i := 0) hC dX3_step_71 rfl rfl ?_
    refine G_getI (pc := 72) (ci := 2) (C := RX3) (T := TX3) (N := 61) (f := 29) hC rfl in_X3 (Nat.le_of_ble_eq_true rfl) q3403 (fun _ h => h) dX3_step_72 hw (fun x2 hw => ?_)
    refine G_icmp_ge (pc := 75) (tgt := 82) hC dX3_step_75 (by decide) (fun hc => ?_) (fun hc => ?_)
    · replace hw := hw.1 hc
      exact g_X3_step_82 hJ hC hQ hin hK20  v2 v3 v4 M hw
    · replace hw := hw.2 hc
      refine G_iconst (pc := 78) (v := 1) hC dX3_step_78 (by decide) ?_
      refine G_goto (pc := 79) (tgt := 83) hC dX3_step_79 (by decide) ?_
      exact g_X3_step_83 hJ hC hQ hin hK20  v2 v3 v4 (1 : Int32) M hw
theorem g_X3_step_37 {k : kT} {F : Nat} {a0 : Nat} {p1 : Int32} {Q : Int32 → hM → Prop} {K20 : Int32 → Int32 → Int32 → hM → Prop} (hJ : JOK (kl k) (kg k)) (hC : CX k 8 cX3_step RX3 (some .int) 2 33) (hQ : isQ k (PI Q)) (hin : (kt k).name = "step") (hK20 : ∀ (v2 : Int32) (v3 : Int32) (v4 : Int32) (M : hM), K20 v2 v3 v4 M → GW k 8 M 20 [some (va_rf (some a0)), some (.int p1), some (.int v2), some (.int v3), some (.int v4), none, none, none] []) : ∀ (v2 : Int32) (v3 : Int32) (v4 : Int32) (M : hM), w_X3_step_37 (kg k) F a0 p1 Q K20 v2 v3 v4 M → GW k 8 M 37 [some (va_rf (some a0)), some (.int p1), some (.int v2), some (.int v3), some (.int v4), none, none, none] [] := by
  intro v2 v3 v4 M hw
  refine G_iload (pc := 37) (i := 4) hC dX3_step_37 rfl ?_
  refine G_aload_n (pc := 39) (i := 0) hC dX3_step_39 rfl rfl ?_
  refine G_getI (pc := 40) (ci := 2) (C := RX3) (T := TX3) (N := 61) (f := 27) hC rfl in_X3 (Nat.le_of_ble_eq_true rfl) q3401 (fun _ h => h) dX3_step_40 hw (fun x1 hw => ?_)
  refine G_icmp_ge (pc := 43) (tgt := 82) hC dX3_step_43 (by decide) (fun hc => ?_) (fun hc => ?_)
  · replace hw := hw.1 hc
    exact g_X3_step_82 hJ hC hQ hin hK20  v2 v3 v4 M hw
  · replace hw := hw.2 hc
    refine G_aload_n (pc := 46) (i := 0) hC dX3_step_46 rfl rfl ?_
    refine G_getF (pc := 47) (ci := 2) (C := RX3) (T := TX3) (N := 61) (f := 30) hC rfl in_X3 (Nat.le_of_ble_eq_true rfl) q3404 (fun _ h => h) dX3_step_47 hw (fun x2 hw => ?_)
    refine G_iload (pc := 50) (i := 4) hC dX3_step_50 rfl ?_
    refine G_aload_n (pc := 52) (i := 0) hC dX3_step_52 rfl rfl ?_
    refine G_getI (pc := 53) (ci := 2) (C := RX3) (T := TX3) (N := 61) (f := 27) hC rfl in_X3 (Nat.le_of_ble_eq_true rfl) q3401 (fun _ h => h) dX3_step_53 hw (fun x3 hw => ?_)
    refine G_icmp_ge (pc := 56) (tgt := 64) hC dX3_step_56 (by decide) (fun hc => ?_) (fun hc => ?_)
    · replace hw := hw.1 hc
      refine G_iconst (pc := 64) (v := 0) hC dX3_step_64 (by decide) ?_
      exact g_X3_step_65 hJ hC hQ hin hK20  v2 v3 v4 x2 (0 : Int32) M hw
    · replace hw := hw.2 hc
      refine G_iload (pc := 59) (i := 4) hC dX3_step_59 rfl ?_
      refine G_goto (pc := 61) (tgt := 65) hC dX3_step_61 (by decide) ?_
      exact g_X3_step_65 hJ hC hQ hin hK20  v2 v3 v4 x2 v4 M hw
theorem g_X3_step_20 {k : kT} {F : Nat} {a0 : Nat} {p1 : Int32} {Q : Int32 → hM → Prop} (hJ : JOK (kl k) (kg k)) (hC : CX k 8 cX3_step RX3 (some .int) 2 33) (hQ : isQ k (PI Q)) (hin : (kt k).name = "step") : ∀ (n : Nat) (v2 : Int32) (v3 : Int32) (v4 : Int32) (M : hM), w_X3_step_20 (kg k) F a0 p1 Q n v2 v3 v4 M → GW k 8 M 20 [some (va_rf (some a0)), some (.int p1), some (.int v2), some (.int v3), some (.int v4), none, none, none] [] := by
  intro n
  induction n with
  | zero =>
    intro v2 v3 v4 M hw
    exact hw.elim
  | succ n ih =>
    intro v2 v3 v4 M hw
    refine G_iload (pc := 20) (i := 4) hC dX3_step_20 rfl ?_
    refine G_aload_n (pc := 22) (i := 0) hC dX3_step_22 rfl rfl ?_
    refine G_getI (pc := 23) (ci := 2) (C := RX3) (T := TX3) (N := 61) (f := 27) hC rfl in_X3 (Nat.le_of_ble_eq_true rfl) q3401 (fun _ h => h) dX3_step_23 hw (fun x1 hw => ?_)
    refine G_icmp_lt (pc := 26) (tgt := 37) hC dX3_step_26 (by decide) (fun hc => ?_) (fun hc => ?_)
    · replace hw := hw.1 hc
      exact g_X3_step_37 hJ hC hQ hin ih  v2 v3 v4 M hw
    · replace hw := hw.2 hc
      refine G_iload_n (pc := 29) (i := 3) hC dX3_step_29 rfl rfl ?_
      refine G_aload_n (pc := 30) (i := 0) hC dX3_step_30 rfl rfl ?_
      refine G_getI (pc := 31) (ci := 2) (C := RX3) (T := TX3) (N := 61) (f := 29) hC rfl in_X3 (Nat.le_of_ble_eq_true rfl) q3403 (fun _ h => h) dX3_step_31 hw (fun x2 hw => ?_)
      refine G_icmp_ge (pc := 34) (tgt := 221) hC dX3_step_34 (by decide) (fun hc => ?_) (fun hc => ?_)
      · replace hw := hw.1 hc
        refine G_aload_n (pc := 221) (i := 0) hC dX3_step_221 rfl rfl ?_
        refine G_iconst (pc := 222) (v := 2) hC dX3_step_222 (by decide) ?_
        obtain ⟨hb, hw⟩ := hw
        refine G_callV (pc := 223) (n := 1) (C := "MergeWorkbenchModel") (b := a0) (As := [.int (2 : Int32)]) (rest := []) hC (m_X3_fails hJ hw) (lw_V q3573 q3575 qs52 q108 q3576) hd_X3_fails (by decide) (rcv (C := RX3) (T := TX3) (N := 61) hC hb rfl) rfl rfl (st_c cat_e (Nat.le_of_ble_eq_true rfl)) dX3_step_223 (kI fun x4 M3 hw => ?_)
        exact G_iret (pc := 226) hC rfl hQ dX3_step_226 hw
      · replace hw := hw.2 hc
        exact g_X3_step_37 hJ hC hQ hin ih  v2 v3 v4 M hw
theorem m_X3_step {l : Launch} {g : gT} {F : Nat} {a0 : Nat} {p1 : Int32} {M : hM} {Q : Int32 → hM → Prop} (hJ : JOK l g) (hw : w_X3_step g F a0 p1 M Q) : MG l g yX3_step (ws_ yX3_step cX3_step 8 (some .int)) 2 33 [va_rf (some a0), .int p1] M (PI Q) := by
  refine MG_of hJ.2.1 (by decide) (cat_r (cat_i cat_e)) (Nat.le_of_ble_eq_true rfl) (fun k hl hg hin hQ hC => ?_)
  subst hl hg
  show GW k 8 M 0 [some (va_rf (some a0)), some (.int p1), none, none, none, none, none, none] []
  refine G_aload_n (pc := 0) (i := 0) hC dX3_step_0 rfl rfl ?_
  refine G_getI (pc := 1) (ci := 2) (C := RX3) (T := TX3) (N := 61) (f := 25) hC rfl in_X3 (Nat.le_of_ble_eq_true rfl) q3399 (fun _ h => h) dX3_step_1 hw (fun x1 hw => ?_)
  refine G_if_ne (pc := 4) (tgt := 13) hC dX3_step_4 (by decide) (fun hc => ?_) (fun hc => ?_)
  · replace hw := hw.1 hc
    refine G_iconst (pc := 13) (v := 0) hC dX3_step_13 (by decide) ?_
    refine G_istore_n (pc := 14) (i := 2) (lw := [some (va_rf (some a0)), some (.int p1), some (.int (0 : Int32)), none, none, none, none, none]) hC dX3_step_14 rfl (Nat.le_of_ble_eq_true rfl) rfl ?_
    refine G_iconst (pc := 15) (v := 0) hC dX3_step_15 (by decide) ?_
    refine G_istore_n (pc := 16) (i := 3) (lw := [some (va_rf (some a0)), some (.int p1), some (.int (0 : Int32)), some (.int (0 : Int32)), none, none, none, none]) hC dX3_step_16 rfl (Nat.le_of_ble_eq_true rfl) rfl ?_
    refine G_iconst (pc := 17) (v := 0) hC dX3_step_17 (by decide) ?_
    refine G_istore (pc := 18) (i := 4) (lw := [some (va_rf (some a0)), some (.int p1), some (.int (0 : Int32)), some (.int (0 : Int32)), some (.int (0 : Int32)), none, none, none]) hC dX3_step_18 (Nat.le_of_ble_eq_true rfl) rfl ?_
    exact g_X3_step_20 hJ hC hQ hin _ (0 : Int32) (0 : Int32) (0 : Int32) M hw
  · replace hw := hw.2 hc
    refine G_aload_n (pc := 7) (i := 0) hC dX3_step_7 rfl rfl ?_
    refine G_iconst (pc := 8) (v := 1) hC dX3_step_8 (by decide) ?_
    obtain ⟨hb, hw⟩ := hw
    refine G_callV (pc := 9) (n := 1) (C := "MergeWorkbenchModel") (b := a0) (As := [.int (1 : Int32)]) (rest := []) hC (m_X3_fails hJ hw) (lw_V q3573 q3575 qs52 q108 q3576) hd_X3_fails (by decide) (rcv (C := RX3) (T := TX3) (N := 61) hC hb rfl) rfl rfl (st_c cat_e (Nat.le_of_ble_eq_true rfl)) dX3_step_9 (kI fun x3 M2 hw => ?_)
    exact G_iret (pc := 12) hC rfl hQ dX3_step_12 hw
def w_X3_similarity_61 (g : gT) (F : Nat) (a0 : Nat) (Q : UInt64 → hM → Prop) (s0 : UInt64) (M : hM) : Prop :=
  Q s0 M
def w_X3_similarity_29 (g : gT) (F : Nat) (a0 : Nat) (Q : UInt64 → hM → Prop) (s0 : Option Nat) (s1 : Int32) (M : hM) : Prop :=
  pV M s0 2 0 (.int s1) fun M1 => gI M1 (some a0) 2 0 fun x2 => ((x2 = 0 → (isC M1 a0 2 ∧ w_X3_pairMany g F a0  M1 (fun x4 M3 => gI M3 (some a0) 2 27 fun x5 => gI M3 (some a0) 2 29 fun x6 => (vf_n64 (FP.ddiv (FP.i2d ((2 : Int32) * x4)) (FP.i2d (x5 + x6))) ∧ w_X3_similarity_61 g F a0 Q (FP.ddiv (FP.i2d ((2 : Int32) * x4)) (FP.i2d (x5 + x6))) M3)))) ∧ (¬ (x2 = 0) → w_X3_similarity_61 g F a0 Q FP.dconst0 M1))
def w_X3_similarity (g : gT) (F : Nat) (a0 : Nat) (M : hM) (Q : UInt64 → hM → Prop) : Prop :=
  gI M (some a0) 2 25 fun x1 => ((¬ x1 = 0 → gI M (some a0) 2 27 fun x2 => gI M (some a0) 2 29 fun x3 => ((¬ (x2 + x3) = 0 → w_X3_similarity_29 g F a0 Q (some a0) (0 : Int32) M) ∧ ((x2 + x3) = 0 → w_X3_similarity_29 g F a0 Q (some a0) (2 : Int32) M))) ∧ (x1 = 0 → w_X3_similarity_29 g F a0 Q (some a0) (1 : Int32) M))
theorem g_X3_similarity_61 {k : kT} {F : Nat} {a0 : Nat} {Q : UInt64 → hM → Prop} (hJ : JOK (kl k) (kg k)) (hC : CX k 1 cX3_similarity RX3 (some .double) 2 34) (hQ : isQ k (PD Q)) (hin : (kt k).name = "similarity") : ∀ (s0 : UInt64) (M : hM), w_X3_similarity_61 (kg k) F a0 Q s0 M → GW k 1 M 61 [some (va_rf (some a0))] [.double s0] := by
  intro s0 M hw
  exact G_dret (pc := 61) hC hQ dX3_similarity_61 hw
theorem g_X3_similarity_29 {k : kT} {F : Nat} {a0 : Nat} {Q : UInt64 → hM → Prop} (hJ : JOK (kl k) (kg k)) (hC : CX k 1 cX3_similarity RX3 (some .double) 2 34) (hQ : isQ k (PD Q)) (hin : (kt k).name = "similarity") : ∀ (s0 : Option Nat) (s1 : Int32) (M : hM), w_X3_similarity_29 (kg k) F a0 Q s0 s1 M → GW k 1 M 29 [some (va_rf (some a0))] [.int s1, va_rf s0] := by
  intro s0 s1 M hw
  refine G_put (pc := 29) (ci := 2) (C := RX3) (T := TX3) (N := 61) (f := 0) tyX3 hC rfl in_X3 tyX3_ok nmX3 (Nat.le_of_ble_eq_true rfl) q3374 (fun _ h => h) rfl rfl rfl dX3_similarity_29 hw (fun M1 hw => ?_)
  refine G_aload_n (pc := 32) (i := 0) hC dX3_similarity_32 rfl rfl ?_
  refine G_getI (pc := 33) (ci := 2) (C := RX3) (T := TX3) (N := 61) (f := 0) hC rfl in_X3 (Nat.le_of_ble_eq_true rfl) q3374 (fun _ h => h) dX3_similarity_33 hw (fun x2 hw => ?_)
  refine G_if_eq (pc := 36) (tgt := 43) hC dX3_similarity_36 (by decide) (fun hc => ?_) (fun hc => ?_)
  · replace hw := hw.1 hc
    refine G_iconst (pc := 43) (v := 2) hC dX3_similarity_43 (by decide) ?_
    refine G_aload_n (pc := 44) (i := 0) hC dX3_similarity_44 rfl rfl ?_
    obtain ⟨hb, hw⟩ := hw
    refine G_callV (pc := 45) (n := 0) (C := "MergeWorkbenchModel") (b := a0) (As := []) (rest := [.int (2 : Int32)]) hC (m_X3_pairMany hJ hw) (lw_V q3690 q3692 qs68 q108 q3693) hd_X3_pairMany (by decide) (rcv (C := RX3) (T := TX3) (N := 61) hC hb rfl) rfl rfl (st_c (cat_i cat_e) (Nat.le_of_ble_eq_true rfl)) dX3_similarity_45 (kI fun x4 M3 hw => ?_)
    refine G_imul (pc := 48) hC dX3_similarity_48 ?_
    refine G_i2d (pc := 49) hC dX3_similarity_49 ?_
    refine G_aload_n (pc := 50) (i := 0) hC dX3_similarity_50 rfl rfl ?_
    refine G_getI (pc := 51) (ci := 2) (C := RX3) (T := TX3) (N := 61) (f := 27) hC rfl in_X3 (Nat.le_of_ble_eq_true rfl) q3401 (fun _ h => h) dX3_similarity_51 hw (fun x5 hw => ?_)
    refine G_aload_n (pc := 54) (i := 0) hC dX3_similarity_54 rfl rfl ?_
    refine G_getI (pc := 55) (ci := 2) (C := RX3) (T := TX3) (N := 61) (f := 29) hC rfl in_X3 (Nat.le_of_ble_eq_true rfl) q3403 (fun _ h => h) dX3_similarity_55 hw (fun x6 hw => ?_)
    refine G_iadd (pc := 58) hC dX3_similarity_58 ?_
    refine G_i2d (pc := 59) hC dX3_similarity_59 ?_
    obtain ⟨hdd, hw⟩ := hw
    refine G_ddiv (pc := 60) hC dX3_similarity_60 hdd ?_
    exact g_X3_similarity_61 hJ hC hQ hin  (FP.ddiv (FP.i2d ((2 : Int32) * x4)) (FP.i2d (x5 + x6))) M3 hw
  · replace hw := hw.2 hc
    refine G_dconst0 (pc := 39) hC dX3_similarity_39 ?_
    refine G_goto (pc := 40) (tgt := 61) hC dX3_similarity_40 (by decide) ?_
    exact g_X3_similarity_61 hJ hC hQ hin  FP.dconst0 M1 hw
theorem m_X3_similarity {l : Launch} {g : gT} {F : Nat} {a0 : Nat} {M : hM} {Q : UInt64 → hM → Prop} (hJ : JOK l g) (hw : w_X3_similarity g F a0 M Q) : MG l g yX3_similarity (ws_ yX3_similarity cX3_similarity 1 (some .double)) 2 34 [va_rf (some a0)] M (PD Q) := by
  refine MG_of hJ.2.1 (by decide) (cat_r cat_e) (Nat.le_of_ble_eq_true rfl) (fun k hl hg hin hQ hC => ?_)
  subst hl hg
  show GW k 1 M 0 [some (va_rf (some a0))] []
  refine G_aload_n (pc := 0) (i := 0) hC dX3_similarity_0 rfl rfl ?_
  refine G_aload_n (pc := 1) (i := 0) hC dX3_similarity_1 rfl rfl ?_
  refine G_getI (pc := 2) (ci := 2) (C := RX3) (T := TX3) (N := 61) (f := 25) hC rfl in_X3 (Nat.le_of_ble_eq_true rfl) q3399 (fun _ h => h) dX3_similarity_2 hw (fun x1 hw => ?_)
  refine G_if_ne (pc := 5) (tgt := 12) hC dX3_similarity_5 (by decide) (fun hc => ?_) (fun hc => ?_)
  · replace hw := hw.1 hc
    refine G_aload_n (pc := 12) (i := 0) hC dX3_similarity_12 rfl rfl ?_
    refine G_getI (pc := 13) (ci := 2) (C := RX3) (T := TX3) (N := 61) (f := 27) hC rfl in_X3 (Nat.le_of_ble_eq_true rfl) q3401 (fun _ h => h) dX3_similarity_13 hw (fun x2 hw => ?_)
    refine G_aload_n (pc := 16) (i := 0) hC dX3_similarity_16 rfl rfl ?_
    refine G_getI (pc := 17) (ci := 2) (C := RX3) (T := TX3) (N := 61) (f := 29) hC rfl in_X3 (Nat.le_of_ble_eq_true rfl) q3403 (fun _ h => h) dX3_similarity_17 hw (fun x3 hw => ?_)
    refine G_iadd (pc := 20) hC dX3_similarity_20 ?_
    refine G_if_ne (pc := 21) (tgt := 28) hC dX3_similarity_21 (by decide) (fun hc => ?_) (fun hc => ?_)
    · replace hw := hw.1 hc
      refine G_iconst (pc := 28) (v := 0) hC dX3_similarity_28 (by decide) ?_
      exact g_X3_similarity_29 hJ hC hQ hin  (some a0) (0 : Int32) M hw
    · replace hw := hw.2 hc
      refine G_iconst (pc := 24) (v := 2) hC dX3_similarity_24 (by decide) ?_
      refine G_goto (pc := 25) (tgt := 29) hC dX3_similarity_25 (by decide) ?_
      exact g_X3_similarity_29 hJ hC hQ hin  (some a0) (2 : Int32) M hw
  · replace hw := hw.2 hc
    refine G_iconst (pc := 8) (v := 1) hC dX3_similarity_8 (by decide) ?_
    refine G_goto (pc := 9) (tgt := 29) hC dX3_similarity_9 (by decide) ?_
    exact g_X3_similarity_29 hJ hC hQ hin  (some a0) (1 : Int32) M hw
def w_X3_marks_3 (g : gT) (F : Nat) (a0 : Nat) (p1 : Int32) (p2 : Int32) (p3 : Int32) (Q : hM → Prop) : Nat → Int32 → hM → Prop
  | 0, _, _ => False
  | n + 1, v4, M => ((p3 ≤ v4 → Q M) ∧ (¬ (p3 ≤ v4) → gF M (some a0) 2 36 fun x1 => sI M x1 3 (p1 + v4) (vp_nar .boolean (1 : Int32)) fun M2 => gF M2 (some a0) 2 37 fun x3 => sI M2 x3 3 (p2 + v4) (vp_nar .boolean (1 : Int32)) fun M4 => w_X3_marks_3 g F a0 p1 p2 p3 Q n (v4 + (1 : Int32)) M4))
def w_X3_marks (g : gT) (F : Nat) (a0 : Nat) (p1 : Int32) (p2 : Int32) (p3 : Int32) (M : hM) (Q : hM → Prop) : Prop :=
  w_X3_marks_3 g F a0 p1 p2 p3 Q F (0 : Int32) M
theorem g_X3_marks_3 {k : kT} {F : Nat} {a0 : Nat} {p1 : Int32} {p2 : Int32} {p3 : Int32} {Q : hM → Prop} (hJ : JOK (kl k) (kg k)) (hC : CX k 5 cX3_marks RX3 none 1 12) (hQ : isQ k (PU Q)) (hin : (kt k).name = "marks") : ∀ (n : Nat) (v4 : Int32) (M : hM), w_X3_marks_3 (kg k) F a0 p1 p2 p3 Q n v4 M → GW k 5 M 3 [some (va_rf (some a0)), some (.int p1), some (.int p2), some (.int p3), some (.int v4)] [] := by
  intro n
  induction n with
  | zero =>
    intro v4 M hw
    exact hw.elim
  | succ n ih =>
    intro v4 M hw
    refine G_iload (pc := 3) (i := 4) hC dX3_marks_3 rfl ?_
    refine G_iload_n (pc := 5) (i := 3) hC dX3_marks_5 rfl rfl ?_
    refine G_icmp_ge (pc := 6) (tgt := 35) hC dX3_marks_6 (by decide) (fun hc => ?_) (fun hc => ?_)
    · replace hw := hw.1 hc
      exact G_ret (pc := 35) hC hQ dX3_marks_35 hw
    · replace hw := hw.2 hc
      refine G_aload_n (pc := 9) (i := 0) hC dX3_marks_9 rfl rfl ?_
      refine G_getF (pc := 10) (ci := 2) (C := RX3) (T := TX3) (N := 61) (f := 36) hC rfl in_X3 (Nat.le_of_ble_eq_true rfl) q3410 (fun _ h => h) dX3_marks_10 hw (fun x1 hw => ?_)
      refine G_iload_n (pc := 13) (i := 1) hC dX3_marks_13 rfl rfl ?_
      refine G_iload (pc := 14) (i := 4) hC dX3_marks_14 rfl ?_
      refine G_iadd (pc := 16) hC dX3_marks_16 ?_
      refine G_iconst (pc := 17) (v := 1) hC dX3_marks_17 (by decide) ?_
      refine G_zast (pc := 18) hC dX3_marks_18 hw (fun M2 hw => ?_)
      refine G_aload_n (pc := 19) (i := 0) hC dX3_marks_19 rfl rfl ?_
      refine G_getF (pc := 20) (ci := 2) (C := RX3) (T := TX3) (N := 61) (f := 37) hC rfl in_X3 (Nat.le_of_ble_eq_true rfl) q3411 (fun _ h => h) dX3_marks_20 hw (fun x3 hw => ?_)
      refine G_iload_n (pc := 23) (i := 2) hC dX3_marks_23 rfl rfl ?_
      refine G_iload (pc := 24) (i := 4) hC dX3_marks_24 rfl ?_
      refine G_iadd (pc := 26) hC dX3_marks_26 ?_
      refine G_iconst (pc := 27) (v := 1) hC dX3_marks_27 (by decide) ?_
      refine G_zast (pc := 28) hC dX3_marks_28 hw (fun M4 hw => ?_)
      refine G_iinc (pc := 29) (i := 4) (v := (v4 + (1 : Int32))) (lw := [some (va_rf (some a0)), some (.int p1), some (.int p2), some (.int p3), some (.int (v4 + (1 : Int32)))]) hC dX3_marks_29 rfl (Nat.le_of_ble_eq_true rfl) rfl rfl ?_
      refine G_goto (pc := 32) (tgt := 3) hC dX3_marks_32 (by decide) ?_
      exact ih (v4 + (1 : Int32)) M4 hw
theorem m_X3_marks {l : Launch} {g : gT} {F : Nat} {a0 : Nat} {p1 : Int32} {p2 : Int32} {p3 : Int32} {M : hM} {Q : hM → Prop} (hJ : JOK l g) (hw : w_X3_marks g F a0 p1 p2 p3 M Q) : MG l g yX3_marks (ws_ yX3_marks cX3_marks 5 none) 1 12 [va_rf (some a0), .int p1, .int p2, .int p3] M (PU Q) := by
  refine MG_of hJ.2.1 (by decide) (cat_r (cat_i (cat_i (cat_i cat_e)))) (Nat.le_of_ble_eq_true rfl) (fun k hl hg hin hQ hC => ?_)
  subst hl hg
  show GW k 5 M 0 [some (va_rf (some a0)), some (.int p1), some (.int p2), some (.int p3), none] []
  refine G_iconst (pc := 0) (v := 0) hC dX3_marks_0 (by decide) ?_
  refine G_istore (pc := 1) (i := 4) (lw := [some (va_rf (some a0)), some (.int p1), some (.int p2), some (.int p3), some (.int (0 : Int32))]) hC dX3_marks_1 (Nat.le_of_ble_eq_true rfl) rfl ?_
  exact g_X3_marks_3 hJ hC hQ hin _ (0 : Int32) M hw
def w_X3_lengthFrom_69 (g : gT) (F : Nat) (a0 : Nat) (p1 : Int32) (p2 : Int32) (Q : Int32 → hM → Prop) (v3 : Int32) (M : hM) : Prop :=
  Q v3 M
def w_X3_lengthFrom_2 (g : gT) (F : Nat) (a0 : Nat) (p1 : Int32) (p2 : Int32) (Q : Int32 → hM → Prop) : Nat → Int32 → hM → Prop
  | 0, _, _ => False
  | n + 1, v3, M => gI M (some a0) 2 27 fun x1 => ((x1 ≤ (p1 + v3) → w_X3_lengthFrom_69 g F a0 p1 p2 Q v3 M) ∧ (¬ (x1 ≤ (p1 + v3)) → gI M (some a0) 2 29 fun x2 => ((x2 ≤ (p2 + v3) → w_X3_lengthFrom_69 g F a0 p1 p2 Q v3 M) ∧ (¬ (x2 ≤ (p2 + v3)) → gF M (some a0) 2 36 fun x3 => aI M x3 3 (p1 + v3) fun x4 => ((¬ x4 = 0 → w_X3_lengthFrom_69 g F a0 p1 p2 Q v3 M) ∧ (x4 = 0 → gF M (some a0) 2 37 fun x5 => aI M x5 3 (p2 + v3) fun x6 => ((¬ x6 = 0 → w_X3_lengthFrom_69 g F a0 p1 p2 Q v3 M) ∧ (x6 = 0 → gF M (some a0) 2 26 fun x7 => aI M x7 0 (p1 + v3) fun x8 => gF M (some a0) 2 28 fun x9 => aI M x9 0 (p2 + v3) fun x10 => ((¬ x8 = x10 → w_X3_lengthFrom_69 g F a0 p1 p2 Q v3 M) ∧ (x8 = x10 → w_X3_lengthFrom_2 g F a0 p1 p2 Q n (v3 + (1 : Int32)) M))))))))))
def w_X3_lengthFrom (g : gT) (F : Nat) (a0 : Nat) (p1 : Int32) (p2 : Int32) (M : hM) (Q : Int32 → hM → Prop) : Prop :=
  w_X3_lengthFrom_2 g F a0 p1 p2 Q F (0 : Int32) M
theorem g_X3_lengthFrom_69 {k : kT} {F : Nat} {a0 : Nat} {p1 : Int32} {p2 : Int32} {Q : Int32 → hM → Prop} (hJ : JOK (kl k) (kg k)) (hC : CX k 4 cX3_lengthFrom RX3 (some .int) 1 12) (hQ : isQ k (PI Q)) (hin : (kt k).name = "lengthFrom") : ∀ (v3 : Int32) (M : hM), w_X3_lengthFrom_69 (kg k) F a0 p1 p2 Q v3 M → GW k 4 M 69 [some (va_rf (some a0)), some (.int p1), some (.int p2), some (.int v3)] [] := by
  intro v3 M hw
  refine G_iload_n (pc := 69) (i := 3) hC dX3_lengthFrom_69 rfl rfl ?_
  exact G_iret (pc := 70) hC rfl hQ dX3_lengthFrom_70 hw
theorem g_X3_lengthFrom_2 {k : kT} {F : Nat} {a0 : Nat} {p1 : Int32} {p2 : Int32} {Q : Int32 → hM → Prop} (hJ : JOK (kl k) (kg k)) (hC : CX k 4 cX3_lengthFrom RX3 (some .int) 1 12) (hQ : isQ k (PI Q)) (hin : (kt k).name = "lengthFrom") : ∀ (n : Nat) (v3 : Int32) (M : hM), w_X3_lengthFrom_2 (kg k) F a0 p1 p2 Q n v3 M → GW k 4 M 2 [some (va_rf (some a0)), some (.int p1), some (.int p2), some (.int v3)] [] := by
  intro n
  induction n with
  | zero =>
    intro v3 M hw
    exact hw.elim
  | succ n ih =>
    intro v3 M hw
    refine G_iload_n (pc := 2) (i := 1) hC dX3_lengthFrom_2 rfl rfl ?_
    refine G_iload_n (pc := 3) (i := 3) hC dX3_lengthFrom_3 rfl rfl ?_
    refine G_iadd (pc := 4) hC dX3_lengthFrom_4 ?_
    refine G_aload_n (pc := 5) (i := 0) hC dX3_lengthFrom_5 rfl rfl ?_
    refine G_getI (pc := 6) (ci := 2) (C := RX3) (T := TX3) (N := 61) (f := 27) hC rfl in_X3 (Nat.le_of_ble_eq_true rfl) q3401 (fun _ h => h) dX3_lengthFrom_6 hw (fun x1 hw => ?_)
    refine G_icmp_ge (pc := 9) (tgt := 69) hC dX3_lengthFrom_9 (by decide) (fun hc => ?_) (fun hc => ?_)
    · replace hw := hw.1 hc
      exact g_X3_lengthFrom_69 hJ hC hQ hin  v3 M hw
    · replace hw := hw.2 hc
      refine G_iload_n (pc := 12) (i := 2) hC dX3_lengthFrom_12 rfl rfl ?_
      refine G_iload_n (pc := 13) (i := 3) hC dX3_lengthFrom_13 rfl rfl ?_
      refine G_iadd (pc := 14) hC dX3_lengthFrom_14 ?_
      refine G_aload_n (pc := 15) (i := 0) hC dX3_lengthFrom_15 rfl rfl ?_
      refine G_getI (pc := 16) (ci := 2) (C := RX3) (T := TX3) (N := 61) (f := 29) hC rfl in_X3 (Nat.le_of_ble_eq_true rfl) q3403 (fun _ h => h) dX3_lengthFrom_16 hw (fun x2 hw => ?_)
      refine G_icmp_ge (pc := 19) (tgt := 69) hC dX3_lengthFrom_19 (by decide) (fun hc => ?_) (fun hc => ?_)
      · replace hw := hw.1 hc
        exact g_X3_lengthFrom_69 hJ hC hQ hin  v3 M hw
      · replace hw := hw.2 hc
        refine G_aload_n (pc := 22) (i := 0) hC dX3_lengthFrom_22 rfl rfl ?_
        refine G_getF (pc := 23) (ci := 2) (C := RX3) (T := TX3) (N := 61) (f := 36) hC rfl in_X3 (Nat.le_of_ble_eq_true rfl) q3410 (fun _ h => h) dX3_lengthFrom_23 hw (fun x3 hw => ?_)
        refine G_iload_n (pc := 26) (i := 1) hC dX3_lengthFrom_26 rfl rfl ?_
        refine G_iload_n (pc := 27) (i := 3) hC dX3_lengthFrom_27 rfl rfl ?_
        refine G_iadd (pc := 28) hC dX3_lengthFrom_28 ?_
        refine G_zald (pc := 29) hC dX3_lengthFrom_29 hw (fun x4 hw => ?_)
        refine G_if_ne (pc := 30) (tgt := 69) hC dX3_lengthFrom_30 (by decide) (fun hc => ?_) (fun hc => ?_)
        · replace hw := hw.1 hc
          exact g_X3_lengthFrom_69 hJ hC hQ hin  v3 M hw
        · replace hw := hw.2 hc
          refine G_aload_n (pc := 33) (i := 0) hC dX3_lengthFrom_33 rfl rfl ?_
          refine G_getF (pc := 34) (ci := 2) (C := RX3) (T := TX3) (N := 61) (f := 37) hC rfl in_X3 (Nat.le_of_ble_eq_true rfl) q3411 (fun _ h => h) dX3_lengthFrom_34 hw (fun x5 hw => ?_)
          refine G_iload_n (pc := 37) (i := 2) hC dX3_lengthFrom_37 rfl rfl ?_
          refine G_iload_n (pc := 38) (i := 3) hC dX3_lengthFrom_38 rfl rfl ?_
          refine G_iadd (pc := 39) hC dX3_lengthFrom_39 ?_
          refine G_zald (pc := 40) hC dX3_lengthFrom_40 hw (fun x6 hw => ?_)
          refine G_if_ne (pc := 41) (tgt := 69) hC dX3_lengthFrom_41 (by decide) (fun hc => ?_) (fun hc => ?_)
          · replace hw := hw.1 hc
            exact g_X3_lengthFrom_69 hJ hC hQ hin  v3 M hw
          · replace hw := hw.2 hc
            refine G_aload_n (pc := 44) (i := 0) hC dX3_lengthFrom_44 rfl rfl ?_
            refine G_getF (pc := 45) (ci := 2) (C := RX3) (T := TX3) (N := 61) (f := 26) hC rfl in_X3 (Nat.le_of_ble_eq_true rfl) q3400 (fun _ h => h) dX3_lengthFrom_45 hw (fun x7 hw => ?_)
            refine G_iload_n (pc := 48) (i := 1) hC dX3_lengthFrom_48 rfl rfl ?_
            refine G_iload_n (pc := 49) (i := 3) hC dX3_lengthFrom_49 rfl rfl ?_
            refine G_iadd (pc := 50) hC dX3_lengthFrom_50 ?_
            refine G_iald (pc := 51) hC dX3_lengthFrom_51 hw (fun x8 hw => ?_)
            refine G_aload_n (pc := 52) (i := 0) hC dX3_lengthFrom_52 rfl rfl ?_
            refine G_getF (pc := 53) (ci := 2) (C := RX3) (T := TX3) (N := 61) (f := 28) hC rfl in_X3 (Nat.le_of_ble_eq_true rfl) q3402 (fun _ h => h) dX3_lengthFrom_53 hw (fun x9 hw => ?_)
            refine G_iload_n (pc := 56) (i := 2) hC dX3_lengthFrom_56 rfl rfl ?_
            refine G_iload_n (pc := 57) (i := 3) hC dX3_lengthFrom_57 rfl rfl ?_
            refine G_iadd (pc := 58) hC dX3_lengthFrom_58 ?_
            refine G_iald (pc := 59) hC dX3_lengthFrom_59 hw (fun x10 hw => ?_)
            refine G_icmp_ne (pc := 60) (tgt := 69) hC dX3_lengthFrom_60 (by decide) (fun hc => ?_) (fun hc => ?_)
            · replace hw := hw.1 hc
              exact g_X3_lengthFrom_69 hJ hC hQ hin  v3 M hw
            · replace hw := hw.2 hc
              refine G_iinc (pc := 63) (i := 3) (v := (v3 + (1 : Int32))) (lw := [some (va_rf (some a0)), some (.int p1), some (.int p2), some (.int (v3 + (1 : Int32)))]) hC dX3_lengthFrom_63 rfl (Nat.le_of_ble_eq_true rfl) rfl rfl ?_
              refine G_goto (pc := 66) (tgt := 2) hC dX3_lengthFrom_66 (by decide) ?_
              exact ih (v3 + (1 : Int32)) M hw
theorem m_X3_lengthFrom {l : Launch} {g : gT} {F : Nat} {a0 : Nat} {p1 : Int32} {p2 : Int32} {M : hM} {Q : Int32 → hM → Prop} (hJ : JOK l g) (hw : w_X3_lengthFrom g F a0 p1 p2 M Q) : MG l g yX3_lengthFrom (ws_ yX3_lengthFrom cX3_lengthFrom 4 (some .int)) 1 12 [va_rf (some a0), .int p1, .int p2] M (PI Q) := by
  refine MG_of hJ.2.1 (by decide) (cat_r (cat_i (cat_i cat_e))) (Nat.le_of_ble_eq_true rfl) (fun k hl hg hin hQ hC => ?_)
  subst hl hg
  show GW k 4 M 0 [some (va_rf (some a0)), some (.int p1), some (.int p2), none] []
  refine G_iconst (pc := 0) (v := 0) hC dX3_lengthFrom_0 (by decide) ?_
  refine G_istore_n (pc := 1) (i := 3) (lw := [some (va_rf (some a0)), some (.int p1), some (.int p2), some (.int (0 : Int32))]) hC dX3_lengthFrom_1 rfl (Nat.le_of_ble_eq_true rfl) rfl ?_
  exact g_X3_lengthFrom_2 hJ hC hQ hin _ (0 : Int32) M hw
theorem hd_X3_lengthFrom : yX3_lengthFrom.cls = "MergeWorkbenchModel" ∧ yX3_lengthFrom.cls ≠ "java/lang/invoke/MethodHandle" ∧ yX3_lengthFrom.cls ≠ "java/lang/invoke/VarHandle" ∧ (parseMethodDescriptor yX3_lengthFrom.desc).map (fun d => d.parameters.length) = some 2 := by decide +kernel
theorem hd_X3_marks : yX3_marks.cls = "MergeWorkbenchModel" ∧ yX3_marks.cls ≠ "java/lang/invoke/MethodHandle" ∧ yX3_marks.cls ≠ "java/lang/invoke/VarHandle" ∧ (parseMethodDescriptor yX3_marks.desc).map (fun d => d.parameters.length) = some 3 := by decide +kernel
def w_X3_findMoves_259 (g : gT) (F : Nat) (a0 : Nat) (p1 : Int32) (Q : Int32 → hM → Prop) (K102 : Int32 → hM → Prop) (v2 : Int32) (M : hM) : Prop :=
  K102 v2 M
def w_X3_findMoves_174 (g : gT) (F : Nat) (a0 : Nat) (p1 : Int32) (Q : Int32 → hM → Prop) (K129 : Int32 → Int32 → Int32 → Int32 → Int32 → hM → Prop) (v2 : Int32) (v3 : Int32) (v5 : Int32) (v6 : Int32) (v7 : Int32) (s0 : Int32) (M : hM) : Prop :=
  w_X3_most g F v2 v7 M (fun x2 M1 => K129 x2 v3 s0 v5 (v6 + (1 : Int32)) M1)
def w_X3_findMoves_160 (g : gT) (F : Nat) (a0 : Nat) (p1 : Int32) (Q : Int32 → hM → Prop) (K129 : Int32 → Int32 → Int32 → Int32 → Int32 → hM → Prop) (v2 : Int32) (v4 : Int32) (v5 : Int32) (v6 : Int32) (v7 : Int32) (s0 : Int32) (M : hM) : Prop :=
  ((v7 ≤ v2 → w_X3_findMoves_174 g F a0 p1 Q K129 v2 s0 v5 v6 v7 v4 M) ∧ (¬ (v7 ≤ v2) → w_X3_findMoves_174 g F a0 p1 Q K129 v2 s0 v5 v6 v7 v6 M))
def w_X3_findMoves_129 (g : gT) (F : Nat) (a0 : Nat) (p1 : Int32) (Q : Int32 → hM → Prop) (K117 : Int32 → Int32 → Int32 → Int32 → hM → Prop) : Nat → Int32 → Int32 → Int32 → Int32 → Int32 → hM → Prop
  | 0, _, _, _, _, _, _ => False
  | n + 1, v2, v3, v4, v5, v6, M => gI M (some a0) 2 29 fun x1 => ((x1 ≤ v6 → K117 v2 v3 v4 (v5 + (1 : Int32)) M) ∧ (¬ (x1 ≤ v6) → (isC M a0 2 ∧ w_X3_lengthFrom g F a0 v5 v6 M (fun x3 M2 => ((x3 ≤ v2 → w_X3_findMoves_160 g F a0 p1 Q (fun v2 v3 v4 v5 v6 M => w_X3_findMoves_129 g F a0 p1 Q K117 n v2 v3 v4 v5 v6 M) v2 v4 v5 v6 x3 v3 M2) ∧ (¬ (x3 ≤ v2) → w_X3_findMoves_160 g F a0 p1 Q (fun v2 v3 v4 v5 v6 M => w_X3_findMoves_129 g F a0 p1 Q K117 n v2 v3 v4 v5 v6 M) v2 v4 v5 v6 x3 v5 M2))))))
def w_X3_findMoves_117 (g : gT) (F : Nat) (a0 : Nat) (p1 : Int32) (Q : Int32 → hM → Prop) (K102 : Int32 → hM → Prop) : Nat → Int32 → Int32 → Int32 → Int32 → hM → Prop
  | 0, _, _, _, _, _ => False
  | n + 1, v2, v3, v4, v5, M => gI M (some a0) 2 27 fun x1 => ((x1 ≤ v5 → ((v2 < p1 → w_X3_findMoves_259 g F a0 p1 Q K102 v2 M) ∧ (¬ (v2 < p1) → (isC M a0 2 ∧ w_X3_marks g F a0 v3 v4 v2 M (fun M2 => gF M2 (some a0) 2 32 fun x3 => gI M2 (some a0) 2 33 fun x4 => sI M2 x3 0 ((3 : Int32) * x4) v3 fun M5 => gF M5 (some a0) 2 32 fun x6 => gI M5 (some a0) 2 33 fun x7 => sI M5 x6 0 (((3 : Int32) * x7) + (1 : Int32)) v4 fun M8 => gF M8 (some a0) 2 32 fun x9 => gI M8 (some a0) 2 33 fun x10 => sI M8 x9 0 (((3 : Int32) * x10) + (2 : Int32)) v2 fun M11 => gI M11 (some a0) 2 33 fun x12 => pV M11 (some a0) 2 33 (.int (x12 + (1 : Int32))) fun M13 => w_X3_findMoves_259 g F a0 p1 Q K102 v2 M13))))) ∧ (¬ (x1 ≤ v5) → w_X3_findMoves_129 g F a0 p1 Q (fun v2 v3 v4 v5 M => w_X3_findMoves_117 g F a0 p1 Q K102 n v2 v3 v4 v5 M) F v2 v3 v4 v5 (0 : Int32) M))
def w_X3_findMoves_102 (g : gT) (F : Nat) (a0 : Nat) (p1 : Int32) (Q : Int32 → hM → Prop) : Nat → Int32 → hM → Prop
  | 0, _, _ => False
  | n + 1, v2, M => ((v2 < p1 → gI M (some a0) 2 33 fun x1 => (isC M a0 2 ∧ w_X3_done g F a0 x1 M (fun x3 M2 => Q x3 M2))) ∧ (¬ (v2 < p1) → w_X3_findMoves_117 g F a0 p1 Q (fun v2 M => w_X3_findMoves_102 g F a0 p1 Q n v2 M) F (0 : Int32) (0 : Int32) (0 : Int32) (0 : Int32) M))
def w_X3_findMoves_88 (g : gT) (F : Nat) (a0 : Nat) (p1 : Int32) (Q : Int32 → hM → Prop) (K59 : Int32 → hM → Prop) (v2 : Int32) (M : hM) : Prop :=
  K59 (v2 + (1 : Int32)) M
def w_X3_findMoves_59 (g : gT) (F : Nat) (a0 : Nat) (p1 : Int32) (Q : Int32 → hM → Prop) : Nat → Int32 → hM → Prop
  | 0, _, _ => False
  | n + 1, v2, M => gI M (some a0) 2 27 fun x1 => ((x1 ≤ v2 → pV M (some a0) 2 33 (.int (0 : Int32)) fun M2 => w_X3_findMoves_102 g F a0 p1 Q F (24 : Int32) M2) ∧ (¬ (x1 ≤ v2) → gF M (some a0) 2 30 fun x3 => aI M x3 0 v2 fun x4 => ((x4 < 0 → w_X3_findMoves_88 g F a0 p1 Q (fun v2 M => w_X3_findMoves_59 g F a0 p1 Q n v2 M) v2 M) ∧ (¬ (x4 < 0) → gF M (some a0) 2 30 fun x5 => aI M x5 0 v2 fun x6 => (isC M a0 2 ∧ w_X3_marks g F a0 v2 x6 (1 : Int32) M (fun M7 => w_X3_findMoves_88 g F a0 p1 Q (fun v2 M => w_X3_findMoves_59 g F a0 p1 Q n v2 M) v2 M7))))))
def w_X3_findMoves_31 (g : gT) (F : Nat) (a0 : Nat) (p1 : Int32) (Q : Int32 → hM → Prop) : Nat → Int32 → hM → Prop
  | 0, _, _ => False
  | n + 1, v2, M => (((24 : Int32) ≤ v2 → w_X3_findMoves_59 g F a0 p1 Q F (0 : Int32) M) ∧ (¬ ((24 : Int32) ≤ v2) → gF M (some a0) 2 36 fun x1 => sI M x1 3 v2 (vp_nar .boolean (0 : Int32)) fun M2 => gF M2 (some a0) 2 37 fun x3 => sI M2 x3 3 v2 (vp_nar .boolean (0 : Int32)) fun M4 => w_X3_findMoves_31 g F a0 p1 Q n (v2 + (1 : Int32)) M4))
def w_X3_findMoves (g : gT) (F : Nat) (a0 : Nat) (p1 : Int32) (M : hM) (Q : Int32 → hM → Prop) : Prop :=
  w_X3_in g F p1 (1 : Int32) (9 : Int32) M (fun x2 M1 => ((¬ x2 = 0 → gI M1 (some a0) 2 25 fun x3 => ((¬ x3 = 0 → w_X3_findMoves_31 g F a0 p1 Q F (0 : Int32) M1) ∧ (x3 = 0 → (isC M1 a0 2 ∧ w_X3_fails g F a0 (2 : Int32) M1 (fun x5 M4 => Q x5 M4))))) ∧ (x2 = 0 → (isC M1 a0 2 ∧ w_X3_fails g F a0 (1 : Int32) M1 (fun x7 M6 => Q x7 M6)))))
theorem g_X3_findMoves_259 {k : kT} {F : Nat} {a0 : Nat} {p1 : Int32} {Q : Int32 → hM → Prop} {K102 : Int32 → hM → Prop} (hJ : JOK (kl k) (kg k)) (hC : CX k 8 cX3_findMoves RX3 (some .int) 2 36) (hQ : isQ k (PI Q)) (hin : (kt k).name = "findMoves") (hK102 : ∀ (v2 : Int32) (M : hM), K102 v2 M → GW k 8 M 102 [some (va_rf (some a0)), some (.int p1), some (.int v2), none, none, none, none, none] []) : ∀ (v2 : Int32) (M : hM), w_X3_findMoves_259 (kg k) F a0 p1 Q K102 v2 M → GW k 8 M 259 [some (va_rf (some a0)), some (.int p1), some (.int v2), none, none, none, none, none] [] := by
  intro v2 M hw
  refine G_goto (pc := 259) (tgt := 102) hC dX3_findMoves_259 (by decide) ?_
  exact hK102 v2 M hw
theorem g_X3_findMoves_174 {k : kT} {F : Nat} {a0 : Nat} {p1 : Int32} {Q : Int32 → hM → Prop} {K129 : Int32 → Int32 → Int32 → Int32 → Int32 → hM → Prop} (hJ : JOK (kl k) (kg k)) (hC : CX k 8 cX3_findMoves RX3 (some .int) 2 36) (hQ : isQ k (PI Q)) (hin : (kt k).name = "findMoves") (hK129 : ∀ (v2 : Int32) (v3 : Int32) (v4 : Int32) (v5 : Int32) (v6 : Int32) (M : hM), K129 v2 v3 v4 v5 v6 M → GW k 8 M 129 [some (va_rf (some a0)), some (.int p1), some (.int v2), some (.int v3), some (.int v4), some (.int v5), some (.int v6), none] []) : ∀ (v2 : Int32) (v3 : Int32) (v5 : Int32) (v6 : Int32) (v7 : Int32) (s0 : Int32) (M : hM), w_X3_findMoves_174 (kg k) F a0 p1 Q K129 v2 v3 v5 v6 v7 s0 M → GW k 8 M 174 [some (va_rf (some a0)), some (.int p1), some (.int v2), some (.int v3), none, some (.int v5), some (.int v6), some (.int v7)] [.int s0] := by
  intro v2 v3 v5 v6 v7 s0 M hw
  refine G_istore (pc := 174) (i := 4) (lw := [some (va_rf (some a0)), some (.int p1), some (.int v2), some (.int v3), some (.int s0), some (.int v5), some (.int v6), some (.int v7)]) hC dX3_findMoves_174 (Nat.le_of_ble_eq_true rfl) rfl ?_
  refine G_iload_n (pc := 176) (i := 2) hC dX3_findMoves_176 rfl rfl ?_
  refine G_iload (pc := 177) (i := 7) hC dX3_findMoves_177 rfl ?_
  refine G_callS (pc := 179) (n := 2) (As := [.int v2, .int v7]) (rest := []) hC (m_X3_most hJ hw) (lw_S q3660 q3661 q108 q3662) hd_X3_most.2 (by decide) rfl rfl (st_c cat_e (Nat.le_of_ble_eq_true rfl)) dX3_findMoves_179 (kI fun x2 M1 hw => ?_)
  refine G_istore_n (pc := 182) (i := 2) (lw := [some (va_rf (some a0)), some (.int p1), some (.int x2), some (.int v3), some (.int s0), some (.int v5), some (.int v6), some (.int v7)]) hC dX3_findMoves_182 rfl (Nat.le_of_ble_eq_true rfl) rfl ?_
  refine G_iinc (pc := 183) (i := 6) (v := (v6 + (1 : Int32))) (lw := [some (va_rf (some a0)), some (.int p1), some (.int x2), some (.int v3), some (.int s0), some (.int v5), some (.int (v6 + (1 : Int32))), some (.int v7)]) hC dX3_findMoves_183 rfl (Nat.le_of_ble_eq_true rfl) rfl rfl ?_
  refine G_goto (pc := 186) (tgt := 129) hC dX3_findMoves_186 (by decide) ?_
  refine G_loc (lv' := [some (va_rf (some a0)), some (.int p1), some (.int x2), some (.int v3), some (.int s0), some (.int v5), some (.int (v6 + (1 : Int32))), none]) ⟨Or.inr rfl, Or.inr rfl, Or.inr rfl, Or.inr rfl, Or.inr rfl, Or.inr rfl, Or.inr rfl, Or.inl rfl, trivial⟩ ?_
  exact hK129 x2 v3 s0 v5 (v6 + (1 : Int32)) M1 hw
theorem g_X3_findMoves_160 {k : kT} {F : Nat} {a0 : Nat} {p1 : Int32} {Q : Int32 → hM → Prop} {K129 : Int32 → Int32 → Int32 → Int32 → Int32 → hM → Prop} (hJ : JOK (kl k) (kg k)) (hC : CX k 8 cX3_findMoves RX3 (some .int) 2 36) (hQ : isQ k (PI Q)) (hin : (kt k).name = "findMoves") (hK129 : ∀ (v2 : Int32) (v3 : Int32) (v4 : Int32) (v5 : Int32) (v6 : Int32) (M : hM), K129 v2 v3 v4 v5 v6 M → GW k 8 M 129 [some (va_rf (some a0)), some (.int p1), some (.int v2), some (.int v3), some (.int v4), some (.int v5), some (.int v6), none] []) : ∀ (v2 : Int32) (v4 : Int32) (v5 : Int32) (v6 : Int32) (v7 : Int32) (s0 : Int32) (M : hM), w_X3_findMoves_160 (kg k) F a0 p1 Q K129 v2 v4 v5 v6 v7 s0 M → GW k 8 M 160 [some (va_rf (some a0)), some (.int p1), some (.int v2), none, some (.int v4), some (.int v5), some (.int v6), some (.int v7)] [.int s0] := by
  intro v2 v4 v5 v6 v7 s0 M hw
  refine G_istore_n (pc := 160) (i := 3) (lw := [some (va_rf (some a0)), some (.int p1), some (.int v2), some (.int s0), some (.int v4), some (.int v5), some (.int v6), some (.int v7)]) hC dX3_findMoves_160 rfl (Nat.le_of_ble_eq_true rfl) rfl ?_
  refine G_iload (pc := 161) (i := 7) hC dX3_findMoves_161 rfl ?_
  refine G_iload_n (pc := 163) (i := 2) hC dX3_findMoves_163 rfl rfl ?_
  refine G_icmp_le (pc := 164) (tgt := 172) hC dX3_findMoves_164 (by decide) (fun hc => ?_) (fun hc => ?_)
  · replace hw := hw.1 hc
    refine G_iload (pc := 172) (i := 4) hC dX3_findMoves_172 rfl ?_
    refine G_loc (lv' := [some (va_rf (some a0)), some (.int p1), some (.int v2), some (.int s0), none, some (.int v5), some (.int v6), some (.int v7)]) ⟨Or.inr rfl, Or.inr rfl, Or.inr rfl, Or.inr rfl, Or.inl rfl, Or.inr rfl, Or.inr rfl, Or.inr rfl, trivial⟩ ?_
    exact g_X3_findMoves_174 hJ hC hQ hin hK129  v2 s0 v5 v6 v7 v4 M hw
  · replace hw := hw.2 hc
    refine G_iload (pc := 167) (i := 6) hC dX3_findMoves_167 rfl ?_
    refine G_goto (pc := 169) (tgt := 174) hC dX3_findMoves_169 (by decide) ?_
    refine G_loc (lv' := [some (va_rf (some a0)), some (.int p1), some (.int v2), some (.int s0), none, some (.int v5), some (.int v6), some (.int v7)]) ⟨Or.inr rfl, Or.inr rfl, Or.inr rfl, Or.inr rfl, Or.inl rfl, Or.inr rfl, Or.inr rfl, Or.inr rfl, trivial⟩ ?_
    exact g_X3_findMoves_174 hJ hC hQ hin hK129  v2 s0 v5 v6 v7 v6 M hw
theorem g_X3_findMoves_129 {k : kT} {F : Nat} {a0 : Nat} {p1 : Int32} {Q : Int32 → hM → Prop} {K117 : Int32 → Int32 → Int32 → Int32 → hM → Prop} (hJ : JOK (kl k) (kg k)) (hC : CX k 8 cX3_findMoves RX3 (some .int) 2 36) (hQ : isQ k (PI Q)) (hin : (kt k).name = "findMoves") (hK117 : ∀ (v2 : Int32) (v3 : Int32) (v4 : Int32) (v5 : Int32) (M : hM), K117 v2 v3 v4 v5 M → GW k 8 M 117 [some (va_rf (some a0)), some (.int p1), some (.int v2), some (.int v3), some (.int v4), some (.int v5), none, none] []) : ∀ (n : Nat) (v2 : Int32) (v3 : Int32) (v4 : Int32) (v5 : Int32) (v6 : Int32) (M : hM), w_X3_findMoves_129 (kg k) F a0 p1 Q K117 n v2 v3 v4 v5 v6 M → GW k 8 M 129 [some (va_rf (some a0)), some (.int p1), some (.int v2), some (.int v3), some (.int v4), some (.int v5), some (.int v6), none] [] := by
  intro n
  induction n with
  | zero =>
    intro v2 v3 v4 v5 v6 M hw
    exact hw.elim
  | succ n ih =>
    intro v2 v3 v4 v5 v6 M hw
    refine G_iload (pc := 129) (i := 6) hC dX3_findMoves_129 rfl ?_
    refine G_aload_n (pc := 131) (i := 0) hC dX3_findMoves_131 rfl rfl ?_
    refine G_getI (pc := 132) (ci := 2) (C := RX3) (T := TX3) (N := 61) (f := 29) hC rfl in_X3 (Nat.le_of_ble_eq_true rfl) q3403 (fun _ h => h) dX3_findMoves_132 hw (fun x1 hw => ?_)
    refine G_icmp_ge (pc := 135) (tgt := 189) hC dX3_findMoves_135 (by decide) (fun hc => ?_) (fun hc => ?_)
    · replace hw := hw.1 hc
      refine G_iinc (pc := 189) (i := 5) (v := (v5 + (1 : Int32))) (lw := [some (va_rf (some a0)), some (.int p1), some (.int v2), some (.int v3), some (.int v4), some (.int (v5 + (1 : Int32))), some (.int v6), none]) hC dX3_findMoves_189 rfl (Nat.le_of_ble_eq_true rfl) rfl rfl ?_
      refine G_goto (pc := 192) (tgt := 117) hC dX3_findMoves_192 (by decide) ?_
      refine G_loc (lv' := [some (va_rf (some a0)), some (.int p1), some (.int v2), some (.int v3), some (.int v4), some (.int (v5 + (1 : Int32))), none, none]) ⟨Or.inr rfl, Or.inr rfl, Or.inr rfl, Or.inr rfl, Or.inr rfl, Or.inr rfl, Or.inl rfl, Or.inr rfl, trivial⟩ ?_
      exact hK117 v2 v3 v4 (v5 + (1 : Int32)) M hw
    · replace hw := hw.2 hc
      refine G_aload_n (pc := 138) (i := 0) hC dX3_findMoves_138 rfl rfl ?_
      refine G_iload (pc := 139) (i := 5) hC dX3_findMoves_139 rfl ?_
      refine G_iload (pc := 141) (i := 6) hC dX3_findMoves_141 rfl ?_
      obtain ⟨hb, hw⟩ := hw
      refine G_callV (pc := 143) (n := 2) (C := "MergeWorkbenchModel") (b := a0) (As := [.int v5, .int v6]) (rest := []) hC (m_X3_lengthFrom hJ hw) (lw_V q3726 q3728 qs70 q108 q3729) hd_X3_lengthFrom (by decide) (rcv (C := RX3) (T := TX3) (N := 61) hC hb rfl) rfl rfl (st_c cat_e (Nat.le_of_ble_eq_true rfl)) dX3_findMoves_143 (kI fun x3 M2 hw => ?_)
      refine G_istore (pc := 146) (i := 7) (lw := [some (va_rf (some a0)), some (.int p1), some (.int v2), some (.int v3), some (.int v4), some (.int v5), some (.int v6), some (.int x3)]) hC dX3_findMoves_146 (Nat.le_of_ble_eq_true rfl) rfl ?_
      refine G_iload (pc := 148) (i := 7) hC dX3_findMoves_148 rfl ?_
      refine G_iload_n (pc := 150) (i := 2) hC dX3_findMoves_150 rfl rfl ?_
      refine G_icmp_le (pc := 151) (tgt := 159) hC dX3_findMoves_151 (by decide) (fun hc => ?_) (fun hc => ?_)
      · replace hw := hw.1 hc
        refine G_iload_n (pc := 159) (i := 3) hC dX3_findMoves_159 rfl rfl ?_
        refine G_loc (lv' := [some (va_rf (some a0)), some (.int p1), some (.int v2), none, some (.int v4), some (.int v5), some (.int v6), some (.int x3)]) ⟨Or.inr rfl, Or.inr rfl, Or.inr rfl, Or.inl rfl, Or.inr rfl, Or.inr rfl, Or.inr rfl, Or.inr rfl, trivial⟩ ?_
        exact g_X3_findMoves_160 hJ hC hQ hin ih  v2 v4 v5 v6 x3 v3 M2 hw
      · replace hw := hw.2 hc
        refine G_iload (pc := 154) (i := 5) hC dX3_findMoves_154 rfl ?_
        refine G_goto (pc := 156) (tgt := 160) hC dX3_findMoves_156 (by decide) ?_
        refine G_loc (lv' := [some (va_rf (some a0)), some (.int p1), some (.int v2), none, some (.int v4), some (.int v5), some (.int v6), some (.int x3)]) ⟨Or.inr rfl, Or.inr rfl, Or.inr rfl, Or.inl rfl, Or.inr rfl, Or.inr rfl, Or.inr rfl, Or.inr rfl, trivial⟩ ?_
        exact g_X3_findMoves_160 hJ hC hQ hin ih  v2 v4 v5 v6 x3 v5 M2 hw
theorem g_X3_findMoves_117 {k : kT} {F : Nat} {a0 : Nat} {p1 : Int32} {Q : Int32 → hM → Prop} {K102 : Int32 → hM → Prop} (hJ : JOK (kl k) (kg k)) (hC : CX k 8 cX3_findMoves RX3 (some .int) 2 36) (hQ : isQ k (PI Q)) (hin : (kt k).name = "findMoves") (hK102 : ∀ (v2 : Int32) (M : hM), K102 v2 M → GW k 8 M 102 [some (va_rf (some a0)), some (.int p1), some (.int v2), none, none, none, none, none] []) : ∀ (n : Nat) (v2 : Int32) (v3 : Int32) (v4 : Int32) (v5 : Int32) (M : hM), w_X3_findMoves_117 (kg k) F a0 p1 Q K102 n v2 v3 v4 v5 M → GW k 8 M 117 [some (va_rf (some a0)), some (.int p1), some (.int v2), some (.int v3), some (.int v4), some (.int v5), none, none] [] := by
  intro n
  induction n with
  | zero =>
    intro v2 v3 v4 v5 M hw
    exact hw.elim
  | succ n ih =>
    intro v2 v3 v4 v5 M hw
    refine G_iload (pc := 117) (i := 5) hC dX3_findMoves_117 rfl ?_
    refine G_aload_n (pc := 119) (i := 0) hC dX3_findMoves_119 rfl rfl ?_
    refine G_getI (pc := 120) (ci := 2) (C := RX3) (T := TX3) (N := 61) (f := 27) hC rfl in_X3 (Nat.le_of_ble_eq_true rfl) q3401 (fun _ h => h) dX3_findMoves_120 hw (fun x1 hw => ?_)
    refine G_icmp_ge (pc := 123) (tgt := 195) hC dX3_findMoves_123 (by decide) (fun hc => ?_) (fun hc => ?_)
    · replace hw := hw.1 hc
      refine G_iload_n (pc := 195) (i := 2) hC dX3_findMoves_195 rfl rfl ?_
      refine G_iload_n (pc := 196) (i := 1) hC dX3_findMoves_196 rfl rfl ?_
      refine G_icmp_lt (pc := 197) (tgt := 259) hC dX3_findMoves_197 (by decide) (fun hc => ?_) (fun hc => ?_)
      · replace hw := hw.1 hc
        refine G_loc (lv' := [some (va_rf (some a0)), some (.int p1), some (.int v2), none, none, none, none, none]) ⟨Or.inr rfl, Or.inr rfl, Or.inr rfl, Or.inl rfl, Or.inl rfl, Or.inl rfl, Or.inr rfl, Or.inr rfl, trivial⟩ ?_
        exact g_X3_findMoves_259 hJ hC hQ hin hK102  v2 M hw
      · replace hw := hw.2 hc
        refine G_aload_n (pc := 200) (i := 0) hC dX3_findMoves_200 rfl rfl ?_
        refine G_iload_n (pc := 201) (i := 3) hC dX3_findMoves_201 rfl rfl ?_
        refine G_iload (pc := 202) (i := 4) hC dX3_findMoves_202 rfl ?_
        refine G_iload_n (pc := 204) (i := 2) hC dX3_findMoves_204 rfl rfl ?_
        obtain ⟨hb, hw⟩ := hw
        refine G_callV (pc := 205) (n := 3) (C := "MergeWorkbenchModel") (b := a0) (As := [.int v3, .int v4, .int v2]) (rest := []) hC (m_X3_marks hJ hw) (lw_V q3722 q3724 qs69 q108 q3725) hd_X3_marks (by decide) (rcv (C := RX3) (T := TX3) (N := 61) hC hb rfl) rfl rfl (st_c cat_e (Nat.le_of_ble_eq_true rfl)) dX3_findMoves_205 (kU fun M2 hw => ?_)
        refine G_aload_n (pc := 208) (i := 0) hC dX3_findMoves_208 rfl rfl ?_
        refine G_getF (pc := 209) (ci := 2) (C := RX3) (T := TX3) (N := 61) (f := 32) hC rfl in_X3 (Nat.le_of_ble_eq_true rfl) q3406 (fun _ h => h) dX3_findMoves_209 hw (fun x3 hw => ?_)
        refine G_iconst (pc := 212) (v := 3) hC dX3_findMoves_212 (by decide) ?_
        refine G_aload_n (pc := 213) (i := 0) hC dX3_findMoves_213 rfl rfl ?_
        refine G_getI (pc := 214) (ci := 2) (C := RX3) (T := TX3) (N := 61) (f := 33) hC rfl in_X3 (Nat.le_of_ble_eq_true rfl) q3407 (fun _ h => h) dX3_findMoves_214 hw (fun x4 hw => ?_)
        refine G_imul (pc := 217) hC dX3_findMoves_217 ?_
        refine G_iload_n (pc := 218) (i := 3) hC dX3_findMoves_218 rfl rfl ?_
        refine G_iast (pc := 219) hC dX3_findMoves_219 hw (fun M5 hw => ?_)
        refine G_aload_n (pc := 220) (i := 0) hC dX3_findMoves_220 rfl rfl ?_
        refine G_getF (pc := 221) (ci := 2) (C := RX3) (T := TX3) (N := 61) (f := 32) hC rfl in_X3 (Nat.le_of_ble_eq_true rfl) q3406 (fun _ h => h) dX3_findMoves_221 hw (fun x6 hw => ?_)
        refine G_iconst (pc := 224) (v := 3) hC dX3_findMoves_224 (by decide) ?_
        refine G_aload_n (pc := 225) (i := 0) hC dX3_findMoves_225 rfl rfl ?_
        refine G_getI (pc := 226) (ci := 2) (C := RX3) (T := TX3) (N := 61) (f := 33) hC rfl in_X3 (Nat.le_of_ble_eq_true rfl) q3407 (fun _ h => h) dX3_findMoves_226 hw (fun x7 hw => ?_)
        refine G_imul (pc := 229) hC dX3_findMoves_229 ?_
        refine G_iconst (pc := 230) (v := 1) hC dX3_findMoves_230 (by decide) ?_
        refine G_iadd (pc := 231) hC dX3_findMoves_231 ?_
        refine G_iload (pc := 232) (i := 4) hC dX3_findMoves_232 rfl ?_
        refine G_iast (pc := 234) hC dX3_findMoves_234 hw (fun M8 hw => ?_)
        refine G_aload_n (pc := 235) (i := 0) hC dX3_findMoves_235 rfl rfl ?_
        refine G_getF (pc := 236) (ci := 2) (C := RX3) (T := TX3) (N := 61) (f := 32) hC rfl in_X3 (Nat.le_of_ble_eq_true rfl) q3406 (fun _ h => h) dX3_findMoves_236 hw (fun x9 hw => ?_)
        refine G_iconst (pc := 239) (v := 3) hC dX3_findMoves_239 (by decide) ?_
        refine G_aload_n (pc := 240) (i := 0) hC dX3_findMoves_240 rfl rfl ?_
        refine G_getI (pc := 241) (ci := 2) (C := RX3) (T := TX3) (N := 61) (f := 33) hC rfl in_X3 (Nat.le_of_ble_eq_true rfl) q3407 (fun _ h => h) dX3_findMoves_241 hw (fun x10 hw => ?_)
        refine G_imul (pc := 244) hC dX3_findMoves_244 ?_
        refine G_iconst (pc := 245) (v := 2) hC dX3_findMoves_245 (by decide) ?_
        refine G_iadd (pc := 246) hC dX3_findMoves_246 ?_
        refine G_iload_n (pc := 247) (i := 2) hC dX3_findMoves_247 rfl rfl ?_
        refine G_iast (pc := 248) hC dX3_findMoves_248 hw (fun M11 hw => ?_)
        refine G_aload_n (pc := 249) (i := 0) hC dX3_findMoves_249 rfl rfl ?_
        refine G_dup (pc := 250) hC dX3_findMoves_250 (rf_cat _) ?_
        refine G_getI (pc := 251) (ci := 2) (C := RX3) (T := TX3) (N := 61) (f := 33) hC rfl in_X3 (Nat.le_of_ble_eq_true rfl) q3407 (fun _ h => h) dX3_findMoves_251 hw (fun x12 hw => ?_)
        refine G_iconst (pc := 254) (v := 1) hC dX3_findMoves_254 (by decide) ?_
        refine G_iadd (pc := 255) hC dX3_findMoves_255 ?_
        refine G_put (pc := 256) (ci := 2) (C := RX3) (T := TX3) (N := 61) (f := 33) tyX3 hC rfl in_X3 tyX3_ok nmX3 (Nat.le_of_ble_eq_true rfl) q3407 (fun _ h => h) rfl rfl rfl dX3_findMoves_256 hw (fun M13 hw => ?_)
        refine G_loc (lv' := [some (va_rf (some a0)), some (.int p1), some (.int v2), none, none, none, none, none]) ⟨Or.inr rfl, Or.inr rfl, Or.inr rfl, Or.inl rfl, Or.inl rfl, Or.inl rfl, Or.inr rfl, Or.inr rfl, trivial⟩ ?_
        exact g_X3_findMoves_259 hJ hC hQ hin hK102  v2 M13 hw
    · replace hw := hw.2 hc
      refine G_iconst (pc := 126) (v := 0) hC dX3_findMoves_126 (by decide) ?_
      refine G_istore (pc := 127) (i := 6) (lw := [some (va_rf (some a0)), some (.int p1), some (.int v2), some (.int v3), some (.int v4), some (.int v5), some (.int (0 : Int32)), none]) hC dX3_findMoves_127 (Nat.le_of_ble_eq_true rfl) rfl ?_
      exact g_X3_findMoves_129 hJ hC hQ hin ih _ v2 v3 v4 v5 (0 : Int32) M hw
theorem g_X3_findMoves_102 {k : kT} {F : Nat} {a0 : Nat} {p1 : Int32} {Q : Int32 → hM → Prop} (hJ : JOK (kl k) (kg k)) (hC : CX k 8 cX3_findMoves RX3 (some .int) 2 36) (hQ : isQ k (PI Q)) (hin : (kt k).name = "findMoves") : ∀ (n : Nat) (v2 : Int32) (M : hM), w_X3_findMoves_102 (kg k) F a0 p1 Q n v2 M → GW k 8 M 102 [some (va_rf (some a0)), some (.int p1), some (.int v2), none, none, none, none, none] [] := by
  intro n
  induction n with
  | zero =>
    intro v2 M hw
    exact hw.elim
  | succ n ih =>
    intro v2 M hw
    refine G_iload_n (pc := 102) (i := 2) hC dX3_findMoves_102 rfl rfl ?_
    refine G_iload_n (pc := 103) (i := 1) hC dX3_findMoves_103 rfl rfl ?_
    refine G_icmp_lt (pc := 104) (tgt := 262) hC dX3_findMoves_104 (by decide) (fun hc => ?_) (fun hc => ?_)
    · replace hw := hw.1 hc
      refine G_aload_n (pc := 262) (i := 0) hC dX3_findMoves_262 rfl rfl ?_
      refine G_aload_n (pc := 263) (i := 0) hC dX3_findMoves_263 rfl rfl ?_
      refine G_getI (pc := 264) (ci := 2) (C := RX3) (T := TX3) (N := 61) (f := 33) hC rfl in_X3 (Nat.le_of_ble_eq_true rfl) q3407 (fun _ h => h) dX3_findMoves_264 hw (fun x1 hw => ?_)
      obtain ⟨hb, hw⟩ := hw
      refine G_callV (pc := 267) (n := 1) (C := "MergeWorkbenchModel") (b := a0) (As := [.int x1]) (rest := []) hC (m_X3_done hJ hw) (lw_V q3581 q3583 qs54 q108 q3584) hd_X3_done (by decide) (rcv (C := RX3) (T := TX3) (N := 61) hC hb rfl) rfl rfl (st_c cat_e (Nat.le_of_ble_eq_true rfl)) dX3_findMoves_267 (kI fun x3 M2 hw => ?_)
      exact G_iret (pc := 270) hC rfl hQ dX3_findMoves_270 hw
    · replace hw := hw.2 hc
      refine G_iconst (pc := 107) (v := 0) hC dX3_findMoves_107 (by decide) ?_
      refine G_istore_n (pc := 108) (i := 2) (lw := [some (va_rf (some a0)), some (.int p1), some (.int (0 : Int32)), none, none, none, none, none]) hC dX3_findMoves_108 rfl (Nat.le_of_ble_eq_true rfl) rfl ?_
      refine G_iconst (pc := 109) (v := 0) hC dX3_findMoves_109 (by decide) ?_
      refine G_istore_n (pc := 110) (i := 3) (lw := [some (va_rf (some a0)), some (.int p1), some (.int (0 : Int32)), some (.int (0 : Int32)), none, none, none, none]) hC dX3_findMoves_110 rfl (Nat.le_of_ble_eq_true rfl) rfl ?_
      refine G_iconst (pc := 111) (v := 0) hC dX3_findMoves_111 (by decide) ?_
      refine G_istore (pc := 112) (i := 4) (lw := [some (va_rf (some a0)), some (.int p1), some (.int (0 : Int32)), some (.int (0 : Int32)), some (.int (0 : Int32)), none, none, none]) hC dX3_findMoves_112 (Nat.le_of_ble_eq_true rfl) rfl ?_
      refine G_iconst (pc := 114) (v := 0) hC dX3_findMoves_114 (by decide) ?_
      refine G_istore (pc := 115) (i := 5) (lw := [some (va_rf (some a0)), some (.int p1), some (.int (0 : Int32)), some (.int (0 : Int32)), some (.int (0 : Int32)), some (.int (0 : Int32)), none, none]) hC dX3_findMoves_115 (Nat.le_of_ble_eq_true rfl) rfl ?_
      exact g_X3_findMoves_117 hJ hC hQ hin ih _ (0 : Int32) (0 : Int32) (0 : Int32) (0 : Int32) M hw
theorem g_X3_findMoves_88 {k : kT} {F : Nat} {a0 : Nat} {p1 : Int32} {Q : Int32 → hM → Prop} {K59 : Int32 → hM → Prop} (hJ : JOK (kl k) (kg k)) (hC : CX k 8 cX3_findMoves RX3 (some .int) 2 36) (hQ : isQ k (PI Q)) (hin : (kt k).name = "findMoves") (hK59 : ∀ (v2 : Int32) (M : hM), K59 v2 M → GW k 8 M 59 [some (va_rf (some a0)), some (.int p1), some (.int v2), none, none, none, none, none] []) : ∀ (v2 : Int32) (M : hM), w_X3_findMoves_88 (kg k) F a0 p1 Q K59 v2 M → GW k 8 M 88 [some (va_rf (some a0)), some (.int p1), some (.int v2), none, none, none, none, none] [] := by
  intro v2 M hw
  refine G_iinc (pc := 88) (i := 2) (v := (v2 + (1 : Int32))) (lw := [some (va_rf (some a0)), some (.int p1), some (.int (v2 + (1 : Int32))), none, none, none, none, none]) hC dX3_findMoves_88 rfl (Nat.le_of_ble_eq_true rfl) rfl rfl ?_
  refine G_goto (pc := 91) (tgt := 59) hC dX3_findMoves_91 (by decide) ?_
  exact hK59 (v2 + (1 : Int32)) M hw
theorem g_X3_findMoves_59 {k : kT} {F : Nat} {a0 : Nat} {p1 : Int32} {Q : Int32 → hM → Prop} (hJ : JOK (kl k) (kg k)) (hC : CX k 8 cX3_findMoves RX3 (some .int) 2 36) (hQ : isQ k (PI Q)) (hin : (kt k).name = "findMoves") : ∀ (n : Nat) (v2 : Int32) (M : hM), w_X3_findMoves_59 (kg k) F a0 p1 Q n v2 M → GW k 8 M 59 [some (va_rf (some a0)), some (.int p1), some (.int v2), none, none, none, none, none] [] := by
  intro n
  induction n with
  | zero =>
    intro v2 M hw
    exact hw.elim
  | succ n ih =>
    intro v2 M hw
    refine G_iload_n (pc := 59) (i := 2) hC dX3_findMoves_59 rfl rfl ?_
    refine G_aload_n (pc := 60) (i := 0) hC dX3_findMoves_60 rfl rfl ?_
    refine G_getI (pc := 61) (ci := 2) (C := RX3) (T := TX3) (N := 61) (f := 27) hC rfl in_X3 (Nat.le_of_ble_eq_true rfl) q3401 (fun _ h => h) dX3_findMoves_61 hw (fun x1 hw => ?_)
    refine G_icmp_ge (pc := 64) (tgt := 94) hC dX3_findMoves_64 (by decide) (fun hc => ?_) (fun hc => ?_)
    · replace hw := hw.1 hc
      refine G_aload_n (pc := 94) (i := 0) hC dX3_findMoves_94 rfl rfl ?_
      refine G_iconst (pc := 95) (v := 0) hC dX3_findMoves_95 (by decide) ?_
      refine G_put (pc := 96) (ci := 2) (C := RX3) (T := TX3) (N := 61) (f := 33) tyX3 hC rfl in_X3 tyX3_ok nmX3 (Nat.le_of_ble_eq_true rfl) q3407 (fun _ h => h) rfl rfl rfl dX3_findMoves_96 hw (fun M2 hw => ?_)
      refine G_bipush (pc := 99) (v := 24) hC dX3_findMoves_99 (by decide) ?_
      refine G_istore_n (pc := 101) (i := 2) (lw := [some (va_rf (some a0)), some (.int p1), some (.int (24 : Int32)), none, none, none, none, none]) hC dX3_findMoves_101 rfl (Nat.le_of_ble_eq_true rfl) rfl ?_
      exact g_X3_findMoves_102 hJ hC hQ hin _ (24 : Int32) M2 hw
    · replace hw := hw.2 hc
      refine G_aload_n (pc := 67) (i := 0) hC dX3_findMoves_67 rfl rfl ?_
      refine G_getF (pc := 68) (ci := 2) (C := RX3) (T := TX3) (N := 61) (f := 30) hC rfl in_X3 (Nat.le_of_ble_eq_true rfl) q3404 (fun _ h => h) dX3_findMoves_68 hw (fun x3 hw => ?_)
      refine G_iload_n (pc := 71) (i := 2) hC dX3_findMoves_71 rfl rfl ?_
      refine G_iald (pc := 72) hC dX3_findMoves_72 hw (fun x4 hw => ?_)
      refine G_if_lt (pc := 73) (tgt := 88) hC dX3_findMoves_73 (by decide) (fun hc => ?_) (fun hc => ?_)
      · replace hw := hw.1 hc
        exact g_X3_findMoves_88 hJ hC hQ hin ih  v2 M hw
      · replace hw := hw.2 hc
        refine G_aload_n (pc := 76) (i := 0) hC dX3_findMoves_76 rfl rfl ?_
        refine G_iload_n (pc := 77) (i := 2) hC dX3_findMoves_77 rfl rfl ?_
        refine G_aload_n (pc := 78) (i := 0) hC dX3_findMoves_78 rfl rfl ?_
        refine G_getF (pc := 79) (ci := 2) (C := RX3) (T := TX3) (N := 61) (f := 30) hC rfl in_X3 (Nat.le_of_ble_eq_true rfl) q3404 (fun _ h => h) dX3_findMoves_79 hw (fun x5 hw => ?_)
        refine G_iload_n (pc := 82) (i := 2) hC dX3_findMoves_82 rfl rfl ?_
        refine G_iald (pc := 83) hC dX3_findMoves_83 hw (fun x6 hw => ?_)
        refine G_iconst (pc := 84) (v := 1) hC dX3_findMoves_84 (by decide) ?_
        obtain ⟨hb, hw⟩ := hw
        refine G_callV (pc := 85) (n := 3) (C := "MergeWorkbenchModel") (b := a0) (As := [.int v2, .int x6, .int (1 : Int32)]) (rest := []) hC (m_X3_marks hJ hw) (lw_V q3722 q3724 qs69 q108 q3725) hd_X3_marks (by decide) (rcv (C := RX3) (T := TX3) (N := 61) hC hb rfl) rfl rfl (st_c cat_e (Nat.le_of_ble_eq_true rfl)) dX3_findMoves_85 (kU fun M7 hw => ?_)
        exact g_X3_findMoves_88 hJ hC hQ hin ih  v2 M7 hw
theorem g_X3_findMoves_31 {k : kT} {F : Nat} {a0 : Nat} {p1 : Int32} {Q : Int32 → hM → Prop} (hJ : JOK (kl k) (kg k)) (hC : CX k 8 cX3_findMoves RX3 (some .int) 2 36) (hQ : isQ k (PI Q)) (hin : (kt k).name = "findMoves") : ∀ (n : Nat) (v2 : Int32) (M : hM), w_X3_findMoves_31 (kg k) F a0 p1 Q n v2 M → GW k 8 M 31 [some (va_rf (some a0)), some (.int p1), some (.int v2), none, none, none, none, none] [] := by
  intro n
  induction n with
  | zero =>
    intro v2 M hw
    exact hw.elim
  | succ n ih =>
    intro v2 M hw
    refine G_iload_n (pc := 31) (i := 2) hC dX3_findMoves_31 rfl rfl ?_
    refine G_bipush (pc := 32) (v := 24) hC dX3_findMoves_32 (by decide) ?_
    refine G_icmp_ge (pc := 34) (tgt := 57) hC dX3_findMoves_34 (by decide) (fun hc => ?_) (fun hc => ?_)
    · replace hw := hw.1 hc
      refine G_iconst (pc := 57) (v := 0) hC dX3_findMoves_57 (by decide) ?_
      refine G_istore_n (pc := 58) (i := 2) (lw := [some (va_rf (some a0)), some (.int p1), some (.int (0 : Int32)), none, none, none, none, none]) hC dX3_findMoves_58 rfl (Nat.le_of_ble_eq_true rfl) rfl ?_
      exact g_X3_findMoves_59 hJ hC hQ hin _ (0 : Int32) M hw
    · replace hw := hw.2 hc
      refine G_aload_n (pc := 37) (i := 0) hC dX3_findMoves_37 rfl rfl ?_
      refine G_getF (pc := 38) (ci := 2) (C := RX3) (T := TX3) (N := 61) (f := 36) hC rfl in_X3 (Nat.le_of_ble_eq_true rfl) q3410 (fun _ h => h) dX3_findMoves_38 hw (fun x1 hw => ?_)
      refine G_iload_n (pc := 41) (i := 2) hC dX3_findMoves_41 rfl rfl ?_
      refine G_iconst (pc := 42) (v := 0) hC dX3_findMoves_42 (by decide) ?_
      refine G_zast (pc := 43) hC dX3_findMoves_43 hw (fun M2 hw => ?_)
      refine G_aload_n (pc := 44) (i := 0) hC dX3_findMoves_44 rfl rfl ?_
      refine G_getF (pc := 45) (ci := 2) (C := RX3) (T := TX3) (N := 61) (f := 37) hC rfl in_X3 (Nat.le_of_ble_eq_true rfl) q3411 (fun _ h => h) dX3_findMoves_45 hw (fun x3 hw => ?_)
      refine G_iload_n (pc := 48) (i := 2) hC dX3_findMoves_48 rfl rfl ?_
      refine G_iconst (pc := 49) (v := 0) hC dX3_findMoves_49 (by decide) ?_
      refine G_zast (pc := 50) hC dX3_findMoves_50 hw (fun M4 hw => ?_)
      refine G_iinc (pc := 51) (i := 2) (v := (v2 + (1 : Int32))) (lw := [some (va_rf (some a0)), some (.int p1), some (.int (v2 + (1 : Int32))), none, none, none, none, none]) hC dX3_findMoves_51 rfl (Nat.le_of_ble_eq_true rfl) rfl rfl ?_
      refine G_goto (pc := 54) (tgt := 31) hC dX3_findMoves_54 (by decide) ?_
      exact ih (v2 + (1 : Int32)) M4 hw
theorem m_X3_findMoves {l : Launch} {g : gT} {F : Nat} {a0 : Nat} {p1 : Int32} {M : hM} {Q : Int32 → hM → Prop} (hJ : JOK l g) (hw : w_X3_findMoves g F a0 p1 M Q) : MG l g yX3_findMoves (ws_ yX3_findMoves cX3_findMoves 8 (some .int)) 2 36 [va_rf (some a0), .int p1] M (PI Q) := by
  refine MG_of hJ.2.1 (by decide) (cat_r (cat_i cat_e)) (Nat.le_of_ble_eq_true rfl) (fun k hl hg hin hQ hC => ?_)
  subst hl hg
  show GW k 8 M 0 [some (va_rf (some a0)), some (.int p1), none, none, none, none, none, none] []
  refine G_iload_n (pc := 0) (i := 1) hC dX3_findMoves_0 rfl rfl ?_
  refine G_iconst (pc := 1) (v := 1) hC dX3_findMoves_1 (by decide) ?_
  refine G_bipush (pc := 2) (v := 9) hC dX3_findMoves_2 (by decide) ?_
  refine G_callS (pc := 4) (n := 3) (As := [.int p1, .int (1 : Int32), .int (9 : Int32)]) (rest := []) hC (m_X3_in hJ hw) (lw_S q3570 q3571 q108 q3572) hd_X3_in.2 (by decide) rfl rfl (st_c cat_e (Nat.le_of_ble_eq_true rfl)) dX3_findMoves_4 (kI fun x2 M1 hw => ?_)
  refine G_if_ne (pc := 7) (tgt := 16) hC dX3_findMoves_7 (by decide) (fun hc => ?_) (fun hc => ?_)
  · replace hw := hw.1 hc
    refine G_aload_n (pc := 16) (i := 0) hC dX3_findMoves_16 rfl rfl ?_
    refine G_getI (pc := 17) (ci := 2) (C := RX3) (T := TX3) (N := 61) (f := 25) hC rfl in_X3 (Nat.le_of_ble_eq_true rfl) q3399 (fun _ h => h) dX3_findMoves_17 hw (fun x3 hw => ?_)
    refine G_if_ne (pc := 20) (tgt := 29) hC dX3_findMoves_20 (by decide) (fun hc => ?_) (fun hc => ?_)
    · replace hw := hw.1 hc
      refine G_iconst (pc := 29) (v := 0) hC dX3_findMoves_29 (by decide) ?_
      refine G_istore_n (pc := 30) (i := 2) (lw := [some (va_rf (some a0)), some (.int p1), some (.int (0 : Int32)), none, none, none, none, none]) hC dX3_findMoves_30 rfl (Nat.le_of_ble_eq_true rfl) rfl ?_
      exact g_X3_findMoves_31 hJ hC hQ hin _ (0 : Int32) M1 hw
    · replace hw := hw.2 hc
      refine G_aload_n (pc := 23) (i := 0) hC dX3_findMoves_23 rfl rfl ?_
      refine G_iconst (pc := 24) (v := 2) hC dX3_findMoves_24 (by decide) ?_
      obtain ⟨hb, hw⟩ := hw
      refine G_callV (pc := 25) (n := 1) (C := "MergeWorkbenchModel") (b := a0) (As := [.int (2 : Int32)]) (rest := []) hC (m_X3_fails hJ hw) (lw_V q3573 q3575 qs52 q108 q3576) hd_X3_fails (by decide) (rcv (C := RX3) (T := TX3) (N := 61) hC hb rfl) rfl rfl (st_c cat_e (Nat.le_of_ble_eq_true rfl)) dX3_findMoves_25 (kI fun x5 M4 hw => ?_)
      exact G_iret (pc := 28) hC rfl hQ dX3_findMoves_28 hw
  · replace hw := hw.2 hc
    refine G_aload_n (pc := 10) (i := 0) hC dX3_findMoves_10 rfl rfl ?_
    refine G_iconst (pc := 11) (v := 1) hC dX3_findMoves_11 (by decide) ?_
    obtain ⟨hb, hw⟩ := hw
    refine G_callV (pc := 12) (n := 1) (C := "MergeWorkbenchModel") (b := a0) (As := [.int (1 : Int32)]) (rest := []) hC (m_X3_fails hJ hw) (lw_V q3573 q3575 qs52 q108 q3576) hd_X3_fails (by decide) (rcv (C := RX3) (T := TX3) (N := 61) hC hb rfl) rfl rfl (st_c cat_e (Nat.le_of_ble_eq_true rfl)) dX3_findMoves_12 (kI fun x7 M6 hw => ?_)
    exact G_iret (pc := 15) hC rfl hQ dX3_findMoves_15 hw
def w_X3_move_51 (g : gT) (F : Nat) (a0 : Nat) (p1 : Int32) (p2 : Int32) (Q : Int32 → hM → Prop) (s0 : Int32) (M : hM) : Prop :=
  Q s0 M
def w_X3_move (g : gT) (F : Nat) (a0 : Nat) (p1 : Int32) (p2 : Int32) (M : hM) (Q : Int32 → hM → Prop) : Prop :=
  gI M (some a0) 2 33 fun x1 => w_X3_in g F p1 (0 : Int32) (x1 - (1 : Int32)) M (fun x3 M2 => ((¬ x3 = 0 → w_X3_in g F p2 (0 : Int32) (2 : Int32) M2 (fun x5 M4 => ((x5 = 0 → (isC M4 a0 2 ∧ w_X3_fails g F a0 (2 : Int32) M4 (fun x7 M6 => w_X3_move_51 g F a0 p1 p2 Q x7 M6))) ∧ (¬ (x5 = 0) → gF M4 (some a0) 2 32 fun x8 => aI M4 x8 0 (((3 : Int32) * p1) + p2) fun x9 => (isC M4 a0 2 ∧ w_X3_done g F a0 x9 M4 (fun x11 M10 => w_X3_move_51 g F a0 p1 p2 Q x11 M10)))))) ∧ (x3 = 0 → (isC M2 a0 2 ∧ w_X3_fails g F a0 (1 : Int32) M2 (fun x13 M12 => Q x13 M12)))))
theorem g_X3_move_51 {k : kT} {F : Nat} {a0 : Nat} {p1 : Int32} {p2 : Int32} {Q : Int32 → hM → Prop} (hJ : JOK (kl k) (kg k)) (hC : CX k 3 cX3_move RX3 (some .int) 2 34) (hQ : isQ k (PI Q)) (hin : (kt k).name = "move") : ∀ (s0 : Int32) (M : hM), w_X3_move_51 (kg k) F a0 p1 p2 Q s0 M → GW k 3 M 51 [some (va_rf (some a0)), some (.int p1), some (.int p2)] [.int s0] := by
  intro s0 M hw
  exact G_iret (pc := 51) hC rfl hQ dX3_move_51 hw
theorem m_X3_move {l : Launch} {g : gT} {F : Nat} {a0 : Nat} {p1 : Int32} {p2 : Int32} {M : hM} {Q : Int32 → hM → Prop} (hJ : JOK l g) (hw : w_X3_move g F a0 p1 p2 M Q) : MG l g yX3_move (ws_ yX3_move cX3_move 3 (some .int)) 2 34 [va_rf (some a0), .int p1, .int p2] M (PI Q) := by
  refine MG_of hJ.2.1 (by decide) (cat_r (cat_i (cat_i cat_e))) (Nat.le_of_ble_eq_true rfl) (fun k hl hg hin hQ hC => ?_)
  subst hl hg
  show GW k 3 M 0 [some (va_rf (some a0)), some (.int p1), some (.int p2)] []
  refine G_iload_n (pc := 0) (i := 1) hC dX3_move_0 rfl rfl ?_
  refine G_iconst (pc := 1) (v := 0) hC dX3_move_1 (by decide) ?_
  refine G_aload_n (pc := 2) (i := 0) hC dX3_move_2 rfl rfl ?_
  refine G_getI (pc := 3) (ci := 2) (C := RX3) (T := TX3) (N := 61) (f := 33) hC rfl in_X3 (Nat.le_of_ble_eq_true rfl) q3407 (fun _ h => h) dX3_move_3 hw (fun x1 hw => ?_)
  refine G_iconst (pc := 6) (v := 1) hC dX3_move_6 (by decide) ?_
  refine G_isub (pc := 7) hC dX3_move_7 ?_
  refine G_callS (pc := 8) (n := 3) (As := [.int p1, .int (0 : Int32), .int (x1 - (1 : Int32))]) (rest := []) hC (m_X3_in hJ hw) (lw_S q3570 q3571 q108 q3572) hd_X3_in.2 (by decide) rfl rfl (st_c cat_e (Nat.le_of_ble_eq_true rfl)) dX3_move_8 (kI fun x3 M2 hw => ?_)
  refine G_if_ne (pc := 11) (tgt := 20) hC dX3_move_11 (by decide) (fun hc => ?_) (fun hc => ?_)
  · replace hw := hw.1 hc
    refine G_iload_n (pc := 20) (i := 2) hC dX3_move_20 rfl rfl ?_
    refine G_iconst (pc := 21) (v := 0) hC dX3_move_21 (by decide) ?_
    refine G_iconst (pc := 22) (v := 2) hC dX3_move_22 (by decide) ?_
    refine G_callS (pc := 23) (n := 3) (As := [.int p2, .int (0 : Int32), .int (2 : Int32)]) (rest := []) hC (m_X3_in hJ hw) (lw_S q3570 q3571 q108 q3572) hd_X3_in.2 (by decide) rfl rfl (st_c cat_e (Nat.le_of_ble_eq_true rfl)) dX3_move_23 (kI fun x5 M4 hw => ?_)
    refine G_if_eq (pc := 26) (tgt := 46) hC dX3_move_26 (by decide) (fun hc => ?_) (fun hc => ?_)
    · replace hw := hw.1 hc
      refine G_aload_n (pc := 46) (i := 0) hC dX3_move_46 rfl rfl ?_
      refine G_iconst (pc := 47) (v := 2) hC dX3_move_47 (by decide) ?_
      obtain ⟨hb, hw⟩ := hw
      refine G_callV (pc := 48) (n := 1) (C := "MergeWorkbenchModel") (b := a0) (As := [.int (2 : Int32)]) (rest := []) hC (m_X3_fails hJ hw) (lw_V q3573 q3575 qs52 q108 q3576) hd_X3_fails (by decide) (rcv (C := RX3) (T := TX3) (N := 61) hC hb rfl) rfl rfl (st_c cat_e (Nat.le_of_ble_eq_true rfl)) dX3_move_48 (kI fun x7 M6 hw => ?_)
      exact g_X3_move_51 hJ hC hQ hin  x7 M6 hw
    · replace hw := hw.2 hc
      refine G_aload_n (pc := 29) (i := 0) hC dX3_move_29 rfl rfl ?_
      refine G_aload_n (pc := 30) (i := 0) hC dX3_move_30 rfl rfl ?_
      refine G_getF (pc := 31) (ci := 2) (C := RX3) (T := TX3) (N := 61) (f := 32) hC rfl in_X3 (Nat.le_of_ble_eq_true rfl) q3406 (fun _ h => h) dX3_move_31 hw (fun x8 hw => ?_)
      refine G_iconst (pc := 34) (v := 3) hC dX3_move_34 (by decide) ?_
      refine G_iload_n (pc := 35) (i := 1) hC dX3_move_35 rfl rfl ?_
      refine G_imul (pc := 36) hC dX3_move_36 ?_
      refine G_iload_n (pc := 37) (i := 2) hC dX3_move_37 rfl rfl ?_
      refine G_iadd (pc := 38) hC dX3_move_38 ?_
      refine G_iald (pc := 39) hC dX3_move_39 hw (fun x9 hw => ?_)
      obtain ⟨hb, hw⟩ := hw
      refine G_callV (pc := 40) (n := 1) (C := "MergeWorkbenchModel") (b := a0) (As := [.int x9]) (rest := []) hC (m_X3_done hJ hw) (lw_V q3581 q3583 qs54 q108 q3584) hd_X3_done (by decide) (rcv (C := RX3) (T := TX3) (N := 61) hC hb rfl) rfl rfl (st_c cat_e (Nat.le_of_ble_eq_true rfl)) dX3_move_40 (kI fun x11 M10 hw => ?_)
      refine G_goto (pc := 43) (tgt := 51) hC dX3_move_43 (by decide) ?_
      exact g_X3_move_51 hJ hC hQ hin  x11 M10 hw
  · replace hw := hw.2 hc
    refine G_aload_n (pc := 14) (i := 0) hC dX3_move_14 rfl rfl ?_
    refine G_iconst (pc := 15) (v := 1) hC dX3_move_15 (by decide) ?_
    obtain ⟨hb, hw⟩ := hw
    refine G_callV (pc := 16) (n := 1) (C := "MergeWorkbenchModel") (b := a0) (As := [.int (1 : Int32)]) (rest := []) hC (m_X3_fails hJ hw) (lw_V q3573 q3575 qs52 q108 q3576) hd_X3_fails (by decide) (rcv (C := RX3) (T := TX3) (N := 61) hC hb rfl) rfl rfl (st_c cat_e (Nat.le_of_ble_eq_true rfl)) dX3_move_16 (kI fun x13 M12 hw => ?_)
    exact G_iret (pc := 19) hC rfl hQ dX3_move_19 hw
def w_X3_setShrinking (g : gT) (F : Nat) (a0 : Nat) (p1 : Int32) (M : hM) (Q : Int32 → hM → Prop) : Prop :=
  gI M (some a0) 2 4 fun x1 => pZ M (some a0) 2 4 p1 fun M2 => (isC M2 a0 2 ∧ w_X3_so g F a0 x1 M2 (fun x4 M3 => ((x4 = 0 ∨ x4 = 1) ∧ Q x4 M3)))
theorem m_X3_setShrinking {l : Launch} {g : gT} {F : Nat} {a0 : Nat} {p1 : Int32} {M : hM} {Q : Int32 → hM → Prop} (hJ : JOK l g) (hw : w_X3_setShrinking g F a0 p1 M Q) : MG l g yX3_setShrinking (ws_ yX3_setShrinking cX3_setShrinking 3 (some .boolean)) 2 33 [va_rf (some a0), .int p1] M (PI Q) := by
  refine MG_of hJ.2.1 (by decide) (cat_r (cat_i cat_e)) (Nat.le_of_ble_eq_true rfl) (fun k hl hg hin hQ hC => ?_)
  subst hl hg
  show GW k 3 M 0 [some (va_rf (some a0)), some (.int p1), none] []
  refine G_aload_n (pc := 0) (i := 0) hC dX3_setShrinking_0 rfl rfl ?_
  refine G_getI (pc := 1) (ci := 2) (C := RX3) (T := TX3) (N := 61) (f := 4) hC rfl in_X3 (Nat.le_of_ble_eq_true rfl) q3378 (fun _ h => h) dX3_setShrinking_1 hw (fun x1 hw => ?_)
  refine G_istore_n (pc := 4) (i := 2) (lw := [some (va_rf (some a0)), some (.int p1), some (.int x1)]) hC dX3_setShrinking_4 rfl (Nat.le_of_ble_eq_true rfl) rfl ?_
  refine G_aload_n (pc := 5) (i := 0) hC dX3_setShrinking_5 rfl rfl ?_
  refine G_iload_n (pc := 6) (i := 1) hC dX3_setShrinking_6 rfl rfl ?_
  obtain ⟨hz, hw⟩ := hw
  refine G_put (pc := 7) (ci := 2) (C := RX3) (T := TX3) (N := 61) (f := 4) tyX3 hC rfl in_X3 tyX3_ok nmX3 (Nat.le_of_ble_eq_true rfl) q3378 (fun _ h => h) rfl (nz_n hz) (nz_f hz) dX3_setShrinking_7 hw (fun M2 hw => ?_)
  refine G_aload_n (pc := 10) (i := 0) hC dX3_setShrinking_10 rfl rfl ?_
  refine G_iload_n (pc := 11) (i := 2) hC dX3_setShrinking_11 rfl rfl ?_
  obtain ⟨hb, hw⟩ := hw
  refine G_callV (pc := 12) (n := 1) (C := "MergeWorkbenchModel") (b := a0) (As := [.int x1]) (rest := []) hC (m_X3_so hJ hw) (lw_V q3617 q3619 qs57 q108 q3620) hd_X3_so (by decide) (rcv (C := RX3) (T := TX3) (N := 61) hC hb rfl) rfl rfl (st_c cat_e (Nat.le_of_ble_eq_true rfl)) dX3_setShrinking_12 (kI fun x4 M3 hw => ?_)
  obtain ⟨hz, hw⟩ := hw
  exact G_iret (pc := 15) hC (nz_n hz) hQ dX3_setShrinking_15 hw
def w_X3_alike_63 (g : gT) (F : Nat) (p0 : Option Nat) (p1 : Int32) (p2 : Int32) (p3 : Option Nat) (p4 : Int32) (p5 : Int32) (Q : Int32 → hM → Prop) (v6 : Int32) (M : hM) : Prop :=
  ((v6 = 0 ∨ v6 = 1) ∧ Q v6 M)
def w_X3_alike_55 (g : gT) (F : Nat) (p0 : Option Nat) (p1 : Int32) (p2 : Int32) (p3 : Option Nat) (p4 : Int32) (p5 : Int32) (Q : Int32 → hM → Prop) (K21 : Int32 → Int32 → hM → Prop) (v7 : Int32) (s0 : Int32) (M : hM) : Prop :=
  K21 s0 (v7 + (1 : Int32)) M
def w_X3_alike_21 (g : gT) (F : Nat) (p0 : Option Nat) (p1 : Int32) (p2 : Int32) (p3 : Option Nat) (p4 : Int32) (p5 : Int32) (Q : Int32 → hM → Prop) : Nat → Int32 → Int32 → hM → Prop
  | 0, _, _, _ => False
  | n + 1, v6, v7, M => (((p2 - p1) ≤ v7 → w_X3_alike_63 g F p0 p1 p2 p3 p4 p5 Q v6 M) ∧ (¬ ((p2 - p1) ≤ v7) → ((v6 = 0 → w_X3_alike_63 g F p0 p1 p2 p3 p4 p5 Q v6 M) ∧ (¬ (v6 = 0) → aI M p0 0 (p1 + v7) fun x1 => aI M p3 0 (p4 + v7) fun x2 => ((¬ x1 = x2 → w_X3_alike_55 g F p0 p1 p2 p3 p4 p5 Q (fun v6 v7 M => w_X3_alike_21 g F p0 p1 p2 p3 p4 p5 Q n v6 v7 M) v7 (0 : Int32) M) ∧ (x1 = x2 → w_X3_alike_55 g F p0 p1 p2 p3 p4 p5 Q (fun v6 v7 M => w_X3_alike_21 g F p0 p1 p2 p3 p4 p5 Q n v6 v7 M) v7 (1 : Int32) M))))))
def w_X3_alike_16 (g : gT) (F : Nat) (p0 : Option Nat) (p1 : Int32) (p2 : Int32) (p3 : Option Nat) (p4 : Int32) (p5 : Int32) (Q : Int32 → hM → Prop) (s0 : Int32) (M : hM) : Prop :=
  w_X3_alike_21 g F p0 p1 p2 p3 p4 p5 Q F s0 (0 : Int32) M
def w_X3_alike (g : gT) (F : Nat) (p0 : Option Nat) (p1 : Int32) (p2 : Int32) (p3 : Option Nat) (p4 : Int32) (p5 : Int32) (M : hM) (Q : Int32 → hM → Prop) : Prop :=
  ((¬ (p2 - p1) = (p5 - p4) → w_X3_alike_16 g F p0 p1 p2 p3 p4 p5 Q (0 : Int32) M) ∧ ((p2 - p1) = (p5 - p4) → w_X3_alike_16 g F p0 p1 p2 p3 p4 p5 Q (1 : Int32) M))
theorem g_X3_alike_63 {k : kT} {F : Nat} {p0 : Option Nat} {p1 : Int32} {p2 : Int32} {p3 : Option Nat} {p4 : Int32} {p5 : Int32} {Q : Int32 → hM → Prop} (hJ : JOK (kl k) (kg k)) (hC : CX k 8 cX3_alike RX3 (some .boolean) 1 12) (hQ : isQ k (PI Q)) (hin : (kt k).name = "alike") : ∀ (v6 : Int32) (M : hM), w_X3_alike_63 (kg k) F p0 p1 p2 p3 p4 p5 Q v6 M → GW k 8 M 63 [some (va_rf p0), some (.int p1), some (.int p2), some (va_rf p3), some (.int p4), some (.int p5), some (.int v6), none] [] := by
  intro v6 M hw
  refine G_iload (pc := 63) (i := 6) hC dX3_alike_63 rfl ?_
  obtain ⟨hz, hw⟩ := hw
  exact G_iret (pc := 65) hC (nz_n hz) hQ dX3_alike_65 hw
theorem g_X3_alike_55 {k : kT} {F : Nat} {p0 : Option Nat} {p1 : Int32} {p2 : Int32} {p3 : Option Nat} {p4 : Int32} {p5 : Int32} {Q : Int32 → hM → Prop} {K21 : Int32 → Int32 → hM → Prop} (hJ : JOK (kl k) (kg k)) (hC : CX k 8 cX3_alike RX3 (some .boolean) 1 12) (hQ : isQ k (PI Q)) (hin : (kt k).name = "alike") (hK21 : ∀ (v6 : Int32) (v7 : Int32) (M : hM), K21 v6 v7 M → GW k 8 M 21 [some (va_rf p0), some (.int p1), some (.int p2), some (va_rf p3), some (.int p4), some (.int p5), some (.int v6), some (.int v7)] []) : ∀ (v7 : Int32) (s0 : Int32) (M : hM), w_X3_alike_55 (kg k) F p0 p1 p2 p3 p4 p5 Q K21 v7 s0 M → GW k 8 M 55 [some (va_rf p0), some (.int p1), some (.int p2), some (va_rf p3), some (.int p4), some (.int p5), none, some (.int v7)] [.int s0] := by
  intro v7 s0 M hw
  refine G_istore (pc := 55) (i := 6) (lw := [some (va_rf p0), some (.int p1), some (.int p2), some (va_rf p3), some (.int p4), some (.int p5), some (.int s0), some (.int v7)]) hC dX3_alike_55 (Nat.le_of_ble_eq_true rfl) rfl ?_
  refine G_iinc (pc := 57) (i := 7) (v := (v7 + (1 : Int32))) (lw := [some (va_rf p0), some (.int p1), some (.int p2), some (va_rf p3), some (.int p4), some (.int p5), some (.int s0), some (.int (v7 + (1 : Int32)))]) hC dX3_alike_57 rfl (Nat.le_of_ble_eq_true rfl) rfl rfl ?_
  refine G_goto (pc := 60) (tgt := 21) hC dX3_alike_60 (by decide) ?_
  exact hK21 s0 (v7 + (1 : Int32)) M hw
theorem g_X3_alike_21 {k : kT} {F : Nat} {p0 : Option Nat} {p1 : Int32} {p2 : Int32} {p3 : Option Nat} {p4 : Int32} {p5 : Int32} {Q : Int32 → hM → Prop} (hJ : JOK (kl k) (kg k)) (hC : CX k 8 cX3_alike RX3 (some .boolean) 1 12) (hQ : isQ k (PI Q)) (hin : (kt k).name = "alike") : ∀ (n : Nat) (v6 : Int32) (v7 : Int32) (M : hM), w_X3_alike_21 (kg k) F p0 p1 p2 p3 p4 p5 Q n v6 v7 M → GW k 8 M 21 [some (va_rf p0), some (.int p1), some (.int p2), some (va_rf p3), some (.int p4), some (.int p5), some (.int v6), some (.int v7)] [] := by
  intro n
  induction n with
  | zero =>
    intro v6 v7 M hw
    exact hw.elim
  | succ n ih =>
    intro v6 v7 M hw
    refine G_iload (pc := 21) (i := 7) hC dX3_alike_21 rfl ?_
    refine G_iload_n (pc := 23) (i := 2) hC dX3_alike_23 rfl rfl ?_
    refine G_iload_n (pc := 24) (i := 1) hC dX3_alike_24 rfl rfl ?_
    refine G_isub (pc := 25) hC dX3_alike_25 ?_
    refine G_icmp_ge (pc := 26) (tgt := 63) hC dX3_alike_26 (by decide) (fun hc => ?_) (fun hc => ?_)
    · replace hw := hw.1 hc
      refine G_loc (lv' := [some (va_rf p0), some (.int p1), some (.int p2), some (va_rf p3), some (.int p4), some (.int p5), some (.int v6), none]) ⟨Or.inr rfl, Or.inr rfl, Or.inr rfl, Or.inr rfl, Or.inr rfl, Or.inr rfl, Or.inr rfl, Or.inl rfl, trivial⟩ ?_
      exact g_X3_alike_63 hJ hC hQ hin  v6 M hw
    · replace hw := hw.2 hc
      refine G_iload (pc := 29) (i := 6) hC dX3_alike_29 rfl ?_
      refine G_if_eq (pc := 31) (tgt := 63) hC dX3_alike_31 (by decide) (fun hc => ?_) (fun hc => ?_)
      · replace hw := hw.1 hc
        refine G_loc (lv' := [some (va_rf p0), some (.int p1), some (.int p2), some (va_rf p3), some (.int p4), some (.int p5), some (.int v6), none]) ⟨Or.inr rfl, Or.inr rfl, Or.inr rfl, Or.inr rfl, Or.inr rfl, Or.inr rfl, Or.inr rfl, Or.inl rfl, trivial⟩ ?_
        exact g_X3_alike_63 hJ hC hQ hin  v6 M hw
      · replace hw := hw.2 hc
        refine G_aload_n (pc := 34) (i := 0) hC dX3_alike_34 rfl rfl ?_
        refine G_iload_n (pc := 35) (i := 1) hC dX3_alike_35 rfl rfl ?_
        refine G_iload (pc := 36) (i := 7) hC dX3_alike_36 rfl ?_
        refine G_iadd (pc := 38) hC dX3_alike_38 ?_
        refine G_iald (pc := 39) hC dX3_alike_39 hw (fun x1 hw => ?_)
        refine G_aload_n (pc := 40) (i := 3) hC dX3_alike_40 rfl rfl ?_
        refine G_iload (pc := 41) (i := 4) hC dX3_alike_41 rfl ?_
        refine G_iload (pc := 43) (i := 7) hC dX3_alike_43 rfl ?_
        refine G_iadd (pc := 45) hC dX3_alike_45 ?_
        refine G_iald (pc := 46) hC dX3_alike_46 hw (fun x2 hw => ?_)
        refine G_icmp_ne (pc := 47) (tgt := 54) hC dX3_alike_47 (by decide) (fun hc => ?_) (fun hc => ?_)
        · replace hw := hw.1 hc
          refine G_iconst (pc := 54) (v := 0) hC dX3_alike_54 (by decide) ?_
          refine G_loc (lv' := [some (va_rf p0), some (.int p1), some (.int p2), some (va_rf p3), some (.int p4), some (.int p5), none, some (.int v7)]) ⟨Or.inr rfl, Or.inr rfl, Or.inr rfl, Or.inr rfl, Or.inr rfl, Or.inr rfl, Or.inl rfl, Or.inr rfl, trivial⟩ ?_
          exact g_X3_alike_55 hJ hC hQ hin ih  v7 (0 : Int32) M hw
        · replace hw := hw.2 hc
          refine G_iconst (pc := 50) (v := 1) hC dX3_alike_50 (by decide) ?_
          refine G_goto (pc := 51) (tgt := 55) hC dX3_alike_51 (by decide) ?_
          refine G_loc (lv' := [some (va_rf p0), some (.int p1), some (.int p2), some (va_rf p3), some (.int p4), some (.int p5), none, some (.int v7)]) ⟨Or.inr rfl, Or.inr rfl, Or.inr rfl, Or.inr rfl, Or.inr rfl, Or.inr rfl, Or.inl rfl, Or.inr rfl, trivial⟩ ?_
          exact g_X3_alike_55 hJ hC hQ hin ih  v7 (1 : Int32) M hw
theorem g_X3_alike_16 {k : kT} {F : Nat} {p0 : Option Nat} {p1 : Int32} {p2 : Int32} {p3 : Option Nat} {p4 : Int32} {p5 : Int32} {Q : Int32 → hM → Prop} (hJ : JOK (kl k) (kg k)) (hC : CX k 8 cX3_alike RX3 (some .boolean) 1 12) (hQ : isQ k (PI Q)) (hin : (kt k).name = "alike") : ∀ (s0 : Int32) (M : hM), w_X3_alike_16 (kg k) F p0 p1 p2 p3 p4 p5 Q s0 M → GW k 8 M 16 [some (va_rf p0), some (.int p1), some (.int p2), some (va_rf p3), some (.int p4), some (.int p5), none, none] [.int s0] := by
  intro s0 M hw
  refine G_istore (pc := 16) (i := 6) (lw := [some (va_rf p0), some (.int p1), some (.int p2), some (va_rf p3), some (.int p4), some (.int p5), some (.int s0), none]) hC dX3_alike_16 (Nat.le_of_ble_eq_true rfl) rfl ?_
  refine G_iconst (pc := 18) (v := 0) hC dX3_alike_18 (by decide) ?_
  refine G_istore (pc := 19) (i := 7) (lw := [some (va_rf p0), some (.int p1), some (.int p2), some (va_rf p3), some (.int p4), some (.int p5), some (.int s0), some (.int (0 : Int32))]) hC dX3_alike_19 (Nat.le_of_ble_eq_true rfl) rfl ?_
  exact g_X3_alike_21 hJ hC hQ hin _ s0 (0 : Int32) M hw
theorem m_X3_alike {l : Launch} {g : gT} {F : Nat} {p0 : Option Nat} {p1 : Int32} {p2 : Int32} {p3 : Option Nat} {p4 : Int32} {p5 : Int32} {M : hM} {Q : Int32 → hM → Prop} (hJ : JOK l g) (hw : w_X3_alike g F p0 p1 p2 p3 p4 p5 M Q) : MG l g yX3_alike (ws_ yX3_alike cX3_alike 8 (some .boolean)) 1 12 [va_rf p0, .int p1, .int p2, va_rf p3, .int p4, .int p5] M (PI Q) := by
  refine MG_of hJ.2.1 (by decide) (cat_r (cat_i (cat_i (cat_r (cat_i (cat_i cat_e)))))) (Nat.le_of_ble_eq_true rfl) (fun k hl hg hin hQ hC => ?_)
  subst hl hg
  show GW k 8 M 0 [some (va_rf p0), some (.int p1), some (.int p2), some (va_rf p3), some (.int p4), some (.int p5), none, none] []
  refine G_iload_n (pc := 0) (i := 2) hC dX3_alike_0 rfl rfl ?_
  refine G_iload_n (pc := 1) (i := 1) hC dX3_alike_1 rfl rfl ?_
  refine G_isub (pc := 2) hC dX3_alike_2 ?_
  refine G_iload (pc := 3) (i := 5) hC dX3_alike_3 rfl ?_
  refine G_iload (pc := 5) (i := 4) hC dX3_alike_5 rfl ?_
  refine G_isub (pc := 7) hC dX3_alike_7 ?_
  refine G_icmp_ne (pc := 8) (tgt := 15) hC dX3_alike_8 (by decide) (fun hc => ?_) (fun hc => ?_)
  · replace hw := hw.1 hc
    refine G_iconst (pc := 15) (v := 0) hC dX3_alike_15 (by decide) ?_
    exact g_X3_alike_16 hJ hC hQ hin  (0 : Int32) M hw
  · replace hw := hw.2 hc
    refine G_iconst (pc := 11) (v := 1) hC dX3_alike_11 (by decide) ?_
    refine G_goto (pc := 12) (tgt := 16) hC dX3_alike_12 (by decide) ?_
    exact g_X3_alike_16 hJ hC hQ hin  (1 : Int32) M hw
def w_X3_chunkComes_117 (g : gT) (F : Nat) (a0 : Nat) (p1 : Int32) (p2 : Int32) (p3 : Int32) (p4 : Int32) (p5 : Int32) (p6 : Int32) (p7 : Int32) (Q : hM → Prop) (M : hM) : Prop :=
  Q M
def w_X3_chunkComes (g : gT) (F : Nat) (a0 : Nat) (p1 : Int32) (p2 : Int32) (p3 : Int32) (p4 : Int32) (p5 : Int32) (p6 : Int32) (p7 : Int32) (M : hM) (Q : hM → Prop) : Prop :=
  gI M (some a0) 2 48 fun x1 => gF M (some a0) 2 47 fun x2 => sI M x2 0 ((7 : Int32) * x1) p1 fun M3 => gF M3 (some a0) 2 47 fun x4 => sI M3 x4 0 (((7 : Int32) * x1) + (1 : Int32)) p2 fun M5 => gF M5 (some a0) 2 47 fun x6 => sI M5 x6 0 (((7 : Int32) * x1) + (2 : Int32)) p3 fun M7 => gF M7 (some a0) 2 47 fun x8 => sI M7 x8 0 (((7 : Int32) * x1) + (3 : Int32)) p4 fun M9 => gF M9 (some a0) 2 47 fun x10 => sI M9 x10 0 (((7 : Int32) * x1) + (4 : Int32)) p5 fun M11 => gF M11 (some a0) 2 47 fun x12 => sI M11 x12 0 (((7 : Int32) * x1) + (5 : Int32)) p6 fun M13 => gF M13 (some a0) 2 47 fun x14 => sI M13 x14 0 (((7 : Int32) * x1) + (6 : Int32)) p7 fun M15 => gI M15 (some a0) 2 48 fun x16 => pV M15 (some a0) 2 48 (.int (x16 + (1 : Int32))) fun M17 => ((¬ p1 = (4 : Int32) → w_X3_chunkComes_117 g F a0 p1 p2 p3 p4 p5 p6 p7 Q M17) ∧ (p1 = (4 : Int32) → gF M17 (some a0) 2 49 fun x18 => gI M17 (some a0) 2 50 fun x19 => sI M17 x18 0 x19 (-1 : Int32) fun M20 => gI M20 (some a0) 2 50 fun x21 => pV M20 (some a0) 2 50 (.int (x21 + (1 : Int32))) fun M22 => w_X3_chunkComes_117 g F a0 p1 p2 p3 p4 p5 p6 p7 Q M22))
theorem g_X3_chunkComes_117 {k : kT} {F : Nat} {a0 : Nat} {p1 : Int32} {p2 : Int32} {p3 : Int32} {p4 : Int32} {p5 : Int32} {p6 : Int32} {p7 : Int32} {Q : hM → Prop} (hJ : JOK (kl k) (kg k)) (hC : CX k 9 cX3_chunkComes RX3 none 1 12) (hQ : isQ k (PU Q)) (hin : (kt k).name = "chunkComes") : ∀  (M : hM), w_X3_chunkComes_117 (kg k) F a0 p1 p2 p3 p4 p5 p6 p7 Q  M → GW k 9 M 117 [some (va_rf (some a0)), some (.int p1), some (.int p2), some (.int p3), some (.int p4), some (.int p5), some (.int p6), some (.int p7), none] [] := by
  intro  M hw
  exact G_ret (pc := 117) hC hQ dX3_chunkComes_117 hw
theorem m_X3_chunkComes {l : Launch} {g : gT} {F : Nat} {a0 : Nat} {p1 : Int32} {p2 : Int32} {p3 : Int32} {p4 : Int32} {p5 : Int32} {p6 : Int32} {p7 : Int32} {M : hM} {Q : hM → Prop} (hJ : JOK l g) (hw : w_X3_chunkComes g F a0 p1 p2 p3 p4 p5 p6 p7 M Q) : MG l g yX3_chunkComes (ws_ yX3_chunkComes cX3_chunkComes 9 none) 1 12 [va_rf (some a0), .int p1, .int p2, .int p3, .int p4, .int p5, .int p6, .int p7] M (PU Q) := by
  refine MG_of hJ.2.1 (by decide) (cat_r (cat_i (cat_i (cat_i (cat_i (cat_i (cat_i (cat_i cat_e)))))))) (Nat.le_of_ble_eq_true rfl) (fun k hl hg hin hQ hC => ?_)
  subst hl hg
  show GW k 9 M 0 [some (va_rf (some a0)), some (.int p1), some (.int p2), some (.int p3), some (.int p4), some (.int p5), some (.int p6), some (.int p7), none] []
  refine G_bipush (pc := 0) (v := 7) hC dX3_chunkComes_0 (by decide) ?_
  refine G_aload_n (pc := 2) (i := 0) hC dX3_chunkComes_2 rfl rfl ?_
  refine G_getI (pc := 3) (ci := 2) (C := RX3) (T := TX3) (N := 61) (f := 48) hC rfl in_X3 (Nat.le_of_ble_eq_true rfl) q3422 (fun _ h => h) dX3_chunkComes_3 hw (fun x1 hw => ?_)
  refine G_imul (pc := 6) hC dX3_chunkComes_6 ?_
  refine G_istore (pc := 7) (i := 8) (lw := [some (va_rf (some a0)), some (.int p1), some (.int p2), some (.int p3), some (.int p4), some (.int p5), some (.int p6), some (.int p7), some (.int ((7 : Int32) * x1))]) hC dX3_chunkComes_7 (Nat.le_of_ble_eq_true rfl) rfl ?_
  refine G_aload_n (pc := 9) (i := 0) hC dX3_chunkComes_9 rfl rfl ?_
  refine G_getF (pc := 10) (ci := 2) (C := RX3) (T := TX3) (N := 61) (f := 47) hC rfl in_X3 (Nat.le_of_ble_eq_true rfl) q3421 (fun _ h => h) dX3_chunkComes_10 hw (fun x2 hw => ?_)
  refine G_iload (pc := 13) (i := 8) hC dX3_chunkComes_13 rfl ?_
  refine G_iload_n (pc := 15) (i := 1) hC dX3_chunkComes_15 rfl rfl ?_
  refine G_iast (pc := 16) hC dX3_chunkComes_16 hw (fun M3 hw => ?_)
  refine G_aload_n (pc := 17) (i := 0) hC dX3_chunkComes_17 rfl rfl ?_
  refine G_getF (pc := 18) (ci := 2) (C := RX3) (T := TX3) (N := 61) (f := 47) hC rfl in_X3 (Nat.le_of_ble_eq_true rfl) q3421 (fun _ h => h) dX3_chunkComes_18 hw (fun x4 hw => ?_)
  refine G_iload (pc := 21) (i := 8) hC dX3_chunkComes_21 rfl ?_
  refine G_iconst (pc := 23) (v := 1) hC dX3_chunkComes_23 (by decide) ?_
  refine G_iadd (pc := 24) hC dX3_chunkComes_24 ?_
  refine G_iload_n (pc := 25) (i := 2) hC dX3_chunkComes_25 rfl rfl ?_
  refine G_iast (pc := 26) hC dX3_chunkComes_26 hw (fun M5 hw => ?_)
  refine G_aload_n (pc := 27) (i := 0) hC dX3_chunkComes_27 rfl rfl ?_
  refine G_getF (pc := 28) (ci := 2) (C := RX3) (T := TX3) (N := 61) (f := 47) hC rfl in_X3 (Nat.le_of_ble_eq_true rfl) q3421 (fun _ h => h) dX3_chunkComes_28 hw (fun x6 hw => ?_)
  refine G_iload (pc := 31) (i := 8) hC dX3_chunkComes_31 rfl ?_
  refine G_iconst (pc := 33) (v := 2) hC dX3_chunkComes_33 (by decide) ?_
  refine G_iadd (pc := 34) hC dX3_chunkComes_34 ?_
  refine G_iload_n (pc := 35) (i := 3) hC dX3_chunkComes_35 rfl rfl ?_
  refine G_iast (pc := 36) hC dX3_chunkComes_36 hw (fun M7 hw => ?_)
  refine G_aload_n (pc := 37) (i := 0) hC dX3_chunkComes_37 rfl rfl ?_
  refine G_getF (pc := 38) (ci := 2) (C := RX3) (T := TX3) (N := 61) (f := 47) hC rfl in_X3 (Nat.le_of_ble_eq_true rfl) q3421 (fun _ h => h) dX3_chunkComes_38 hw (fun x8 hw => ?_)
  refine G_iload (pc := 41) (i := 8) hC dX3_chunkComes_41 rfl ?_
  refine G_iconst (pc := 43) (v := 3) hC dX3_chunkComes_43 (by decide) ?_
  refine G_iadd (pc := 44) hC dX3_chunkComes_44 ?_
  refine G_iload (pc := 45) (i := 4) hC dX3_chunkComes_45 rfl ?_
  refine G_iast (pc := 47) hC dX3_chunkComes_47 hw (fun M9 hw => ?_)
  refine G_aload_n (pc := 48) (i := 0) hC dX3_chunkComes_48 rfl rfl ?_
  refine G_getF (pc := 49) (ci := 2) (C := RX3) (T := TX3) (N := 61) (f := 47) hC rfl in_X3 (Nat.le_of_ble_eq_true rfl) q3421 (fun _ h => h) dX3_chunkComes_49 hw (fun x10 hw => ?_)
  refine G_iload (pc := 52) (i := 8) hC dX3_chunkComes_52 rfl ?_
  refine G_iconst (pc := 54) (v := 4) hC dX3_chunkComes_54 (by decide) ?_
  refine G_iadd (pc := 55) hC dX3_chunkComes_55 ?_
  refine G_iload (pc := 56) (i := 5) hC dX3_chunkComes_56 rfl ?_
  refine G_iast (pc := 58) hC dX3_chunkComes_58 hw (fun M11 hw => ?_)
  refine G_aload_n (pc := 59) (i := 0) hC dX3_chunkComes_59 rfl rfl ?_
  refine G_getF (pc := 60) (ci := 2) (C := RX3) (T := TX3) (N := 61) (f := 47) hC rfl in_X3 (Nat.le_of_ble_eq_true rfl) q3421 (fun _ h => h) dX3_chunkComes_60 hw (fun x12 hw => ?_)
  refine G_iload (pc := 63) (i := 8) hC dX3_chunkComes_63 rfl ?_
  refine G_iconst (pc := 65) (v := 5) hC dX3_chunkComes_65 (by decide) ?_
  refine G_iadd (pc := 66) hC dX3_chunkComes_66 ?_
  refine G_iload (pc := 67) (i := 6) hC dX3_chunkComes_67 rfl ?_
  refine G_iast (pc := 69) hC dX3_chunkComes_69 hw (fun M13 hw => ?_)
  refine G_aload_n (pc := 70) (i := 0) hC dX3_chunkComes_70 rfl rfl ?_
  refine G_getF (pc := 71) (ci := 2) (C := RX3) (T := TX3) (N := 61) (f := 47) hC rfl in_X3 (Nat.le_of_ble_eq_true rfl) q3421 (fun _ h => h) dX3_chunkComes_71 hw (fun x14 hw => ?_)
  refine G_iload (pc := 74) (i := 8) hC dX3_chunkComes_74 rfl ?_
  refine G_bipush (pc := 76) (v := 6) hC dX3_chunkComes_76 (by decide) ?_
  refine G_iadd (pc := 78) hC dX3_chunkComes_78 ?_
  refine G_iload (pc := 79) (i := 7) hC dX3_chunkComes_79 rfl ?_
  refine G_iast (pc := 81) hC dX3_chunkComes_81 hw (fun M15 hw => ?_)
  refine G_aload_n (pc := 82) (i := 0) hC dX3_chunkComes_82 rfl rfl ?_
  refine G_dup (pc := 83) hC dX3_chunkComes_83 (rf_cat _) ?_
  refine G_getI (pc := 84) (ci := 2) (C := RX3) (T := TX3) (N := 61) (f := 48) hC rfl in_X3 (Nat.le_of_ble_eq_true rfl) q3422 (fun _ h => h) dX3_chunkComes_84 hw (fun x16 hw => ?_)
  refine G_iconst (pc := 87) (v := 1) hC dX3_chunkComes_87 (by decide) ?_
  refine G_iadd (pc := 88) hC dX3_chunkComes_88 ?_
  refine G_put (pc := 89) (ci := 2) (C := RX3) (T := TX3) (N := 61) (f := 48) tyX3 hC rfl in_X3 tyX3_ok nmX3 (Nat.le_of_ble_eq_true rfl) q3422 (fun _ h => h) rfl rfl rfl dX3_chunkComes_89 hw (fun M17 hw => ?_)
  refine G_iload_n (pc := 92) (i := 1) hC dX3_chunkComes_92 rfl rfl ?_
  refine G_iconst (pc := 93) (v := 4) hC dX3_chunkComes_93 (by decide) ?_
  refine G_icmp_ne (pc := 94) (tgt := 117) hC dX3_chunkComes_94 (by decide) (fun hc => ?_) (fun hc => ?_)
  · replace hw := hw.1 hc
    refine G_loc (lv' := [some (va_rf (some a0)), some (.int p1), some (.int p2), some (.int p3), some (.int p4), some (.int p5), some (.int p6), some (.int p7), none]) ⟨Or.inr rfl, Or.inr rfl, Or.inr rfl, Or.inr rfl, Or.inr rfl, Or.inr rfl, Or.inr rfl, Or.inr rfl, Or.inl rfl, trivial⟩ ?_
    exact g_X3_chunkComes_117 hJ hC hQ hin   M17 hw
  · replace hw := hw.2 hc
    refine G_aload_n (pc := 97) (i := 0) hC dX3_chunkComes_97 rfl rfl ?_
    refine G_getF (pc := 98) (ci := 2) (C := RX3) (T := TX3) (N := 61) (f := 49) hC rfl in_X3 (Nat.le_of_ble_eq_true rfl) q3423 (fun _ h => h) dX3_chunkComes_98 hw (fun x18 hw => ?_)
    refine G_aload_n (pc := 101) (i := 0) hC dX3_chunkComes_101 rfl rfl ?_
    refine G_getI (pc := 102) (ci := 2) (C := RX3) (T := TX3) (N := 61) (f := 50) hC rfl in_X3 (Nat.le_of_ble_eq_true rfl) q3424 (fun _ h => h) dX3_chunkComes_102 hw (fun x19 hw => ?_)
    refine G_iconst (pc := 105) (v := -1) hC dX3_chunkComes_105 (by decide) ?_
    refine G_iast (pc := 106) hC dX3_chunkComes_106 hw (fun M20 hw => ?_)
    refine G_aload_n (pc := 107) (i := 0) hC dX3_chunkComes_107 rfl rfl ?_
    refine G_dup (pc := 108) hC dX3_chunkComes_108 (rf_cat _) ?_
    refine G_getI (pc := 109) (ci := 2) (C := RX3) (T := TX3) (N := 61) (f := 50) hC rfl in_X3 (Nat.le_of_ble_eq_true rfl) q3424 (fun _ h => h) dX3_chunkComes_109 hw (fun x21 hw => ?_)
    refine G_iconst (pc := 112) (v := 1) hC dX3_chunkComes_112 (by decide) ?_
    refine G_iadd (pc := 113) hC dX3_chunkComes_113 ?_
    refine G_put (pc := 114) (ci := 2) (C := RX3) (T := TX3) (N := 61) (f := 50) tyX3 hC rfl in_X3 tyX3_ok nmX3 (Nat.le_of_ble_eq_true rfl) q3424 (fun _ h => h) rfl rfl rfl dX3_chunkComes_114 hw (fun M22 hw => ?_)
    refine G_loc (lv' := [some (va_rf (some a0)), some (.int p1), some (.int p2), some (.int p3), some (.int p4), some (.int p5), some (.int p6), some (.int p7), none]) ⟨Or.inr rfl, Or.inr rfl, Or.inr rfl, Or.inr rfl, Or.inr rfl, Or.inr rfl, Or.inr rfl, Or.inr rfl, Or.inl rfl, trivial⟩ ?_
    exact g_X3_chunkComes_117 hJ hC hQ hin   M22 hw
theorem hd_X3_chunkComes : yX3_chunkComes.cls = "MergeWorkbenchModel" ∧ yX3_chunkComes.cls ≠ "java/lang/invoke/MethodHandle" ∧ yX3_chunkComes.cls ≠ "java/lang/invoke/VarHandle" ∧ (parseMethodDescriptor yX3_chunkComes.desc).map (fun d => d.parameters.length) = some 7 := by decide +kernel
def w_X3_conflictComes_201 (g : gT) (F : Nat) (a0 : Nat) (p1 : Int32) (p2 : Int32) (p3 : Int32) (p4 : Int32) (p5 : Int32) (p6 : Int32) (Q : hM → Prop) (M : hM) : Prop :=
  Q M
def w_X3_conflictComes_149 (g : gT) (F : Nat) (a0 : Nat) (p1 : Int32) (p2 : Int32) (p3 : Int32) (p4 : Int32) (p5 : Int32) (p6 : Int32) (Q : hM → Prop) (v7 : Int32) (v8 : Int32) (M : hM) : Prop :=
  (isC M a0 2 ∧ w_X3_chunkComes g F a0 (4 : Int32) p1 p2 (p3 + v7) (p4 - v8) (p5 + v7) (p6 - v8) M (fun M1 => ((v8 ≤ 0 → w_X3_conflictComes_201 g F a0 p1 p2 p3 p4 p5 p6 Q M1) ∧ (¬ (v8 ≤ 0) → (isC M1 a0 2 ∧ w_X3_chunkComes g F a0 (3 : Int32) p2 p2 (p4 - v8) p4 (p6 - v8) p6 M1 (fun M2 => w_X3_conflictComes_201 g F a0 p1 p2 p3 p4 p5 p6 Q M2))))))
def w_X3_conflictComes_125 (g : gT) (F : Nat) (a0 : Nat) (p1 : Int32) (p2 : Int32) (p3 : Int32) (p4 : Int32) (p5 : Int32) (p6 : Int32) (Q : hM → Prop) (v7 : Int32) (v8 : Int32) (M : hM) : Prop :=
  ((v7 ≤ 0 → w_X3_conflictComes_149 g F a0 p1 p2 p3 p4 p5 p6 Q v7 v8 M) ∧ (¬ (v7 ≤ 0) → (isC M a0 2 ∧ w_X3_chunkComes g F a0 (3 : Int32) p1 p1 p3 (p3 + v7) p5 (p5 + v7) M (fun M1 => w_X3_conflictComes_149 g F a0 p1 p2 p3 p4 p5 p6 Q v7 v8 M1))))
def w_X3_conflictComes_60 (g : gT) (F : Nat) (a0 : Nat) (p1 : Int32) (p2 : Int32) (p3 : Int32) (p4 : Int32) (p5 : Int32) (p6 : Int32) (Q : hM → Prop) : Nat → Int32 → Int32 → hM → Prop
  | 0, _, _, _ => False
  | n + 1, v7, v8, M => gI M (some a0) 2 4 fun x1 => ((x1 = 0 → w_X3_conflictComes_125 g F a0 p1 p2 p3 p4 p5 p6 Q v7 v8 M) ∧ (¬ (x1 = 0) → (((p4 - v8) ≤ (p3 + v7) → w_X3_conflictComes_125 g F a0 p1 p2 p3 p4 p5 p6 Q v7 v8 M) ∧ (¬ ((p4 - v8) ≤ (p3 + v7)) → (((p6 - v8) ≤ (p5 + v7) → w_X3_conflictComes_125 g F a0 p1 p2 p3 p4 p5 p6 Q v7 v8 M) ∧ (¬ ((p6 - v8) ≤ (p5 + v7)) → gF M (some a0) 2 41 fun x2 => aI M x2 0 ((p4 - v8) - (1 : Int32)) fun x3 => gF M (some a0) 2 43 fun x4 => aI M x4 0 ((p6 - v8) - (1 : Int32)) fun x5 => ((¬ x3 = x5 → w_X3_conflictComes_125 g F a0 p1 p2 p3 p4 p5 p6 Q v7 v8 M) ∧ (x3 = x5 → w_X3_conflictComes_60 g F a0 p1 p2 p3 p4 p5 p6 Q n v7 (v8 + (1 : Int32)) M))))))))
def w_X3_conflictComes_6 (g : gT) (F : Nat) (a0 : Nat) (p1 : Int32) (p2 : Int32) (p3 : Int32) (p4 : Int32) (p5 : Int32) (p6 : Int32) (Q : hM → Prop) : Nat → Int32 → Int32 → hM → Prop
  | 0, _, _, _ => False
  | n + 1, v7, v8, M => gI M (some a0) 2 4 fun x1 => ((x1 = 0 → w_X3_conflictComes_60 g F a0 p1 p2 p3 p4 p5 p6 Q F v7 v8 M) ∧ (¬ (x1 = 0) → ((p4 ≤ (p3 + v7) → w_X3_conflictComes_60 g F a0 p1 p2 p3 p4 p5 p6 Q F v7 v8 M) ∧ (¬ (p4 ≤ (p3 + v7)) → ((p6 ≤ (p5 + v7) → w_X3_conflictComes_60 g F a0 p1 p2 p3 p4 p5 p6 Q F v7 v8 M) ∧ (¬ (p6 ≤ (p5 + v7)) → gF M (some a0) 2 41 fun x2 => aI M x2 0 (p3 + v7) fun x3 => gF M (some a0) 2 43 fun x4 => aI M x4 0 (p5 + v7) fun x5 => ((¬ x3 = x5 → w_X3_conflictComes_60 g F a0 p1 p2 p3 p4 p5 p6 Q F v7 v8 M) ∧ (x3 = x5 → w_X3_conflictComes_6 g F a0 p1 p2 p3 p4 p5 p6 Q n (v7 + (1 : Int32)) v8 M))))))))
def w_X3_conflictComes (g : gT) (F : Nat) (a0 : Nat) (p1 : Int32) (p2 : Int32) (p3 : Int32) (p4 : Int32) (p5 : Int32) (p6 : Int32) (M : hM) (Q : hM → Prop) : Prop :=
  w_X3_conflictComes_6 g F a0 p1 p2 p3 p4 p5 p6 Q F (0 : Int32) (0 : Int32) M
theorem g_X3_conflictComes_201 {k : kT} {F : Nat} {a0 : Nat} {p1 : Int32} {p2 : Int32} {p3 : Int32} {p4 : Int32} {p5 : Int32} {p6 : Int32} {Q : hM → Prop} (hJ : JOK (kl k) (kg k)) (hC : CX k 9 cX3_conflictComes RX3 none 2 40) (hQ : isQ k (PU Q)) (hin : (kt k).name = "conflictComes") : ∀  (M : hM), w_X3_conflictComes_201 (kg k) F a0 p1 p2 p3 p4 p5 p6 Q  M → GW k 9 M 201 [some (va_rf (some a0)), some (.int p1), some (.int p2), some (.int p3), some (.int p4), some (.int p5), some (.int p6), none, none] [] := by
  intro  M hw
  exact G_ret (pc := 201) hC hQ dX3_conflictComes_201 hw
theorem g_X3_conflictComes_149 {k : kT} {F : Nat} {a0 : Nat} {p1 : Int32} {p2 : Int32} {p3 : Int32} {p4 : Int32} {p5 : Int32} {p6 : Int32} {Q : hM → Prop} (hJ : JOK (kl k) (kg k)) (hC : CX k 9 cX3_conflictComes RX3 none 2 40) (hQ : isQ k (PU Q)) (hin : (kt k).name = "conflictComes") : ∀ (v7 : Int32) (v8 : Int32) (M : hM), w_X3_conflictComes_149 (kg k) F a0 p1 p2 p3 p4 p5 p6 Q v7 v8 M → GW k 9 M 149 [some (va_rf (some a0)), some (.int p1), some (.int p2), some (.int p3), some (.int p4), some (.int p5), some (.int p6), some (.int v7), some (.int v8)] [] := by
  intro v7 v8 M hw
  refine G_aload_n (pc := 149) (i := 0) hC dX3_conflictComes_149 rfl rfl ?_
  refine G_iconst (pc := 150) (v := 4) hC dX3_conflictComes_150 (by decide) ?_
  refine G_iload_n (pc := 151) (i := 1) hC dX3_conflictComes_151 rfl rfl ?_
  refine G_iload_n (pc := 152) (i := 2) hC dX3_conflictComes_152 rfl rfl ?_
  refine G_iload_n (pc := 153) (i := 3) hC dX3_conflictComes_153 rfl rfl ?_
  refine G_iload (pc := 154) (i := 7) hC dX3_conflictComes_154 rfl ?_
  refine G_iadd (pc := 156) hC dX3_conflictComes_156 ?_
  refine G_iload (pc := 157) (i := 4) hC dX3_conflictComes_157 rfl ?_
  refine G_iload (pc := 159) (i := 8) hC dX3_conflictComes_159 rfl ?_
  refine G_isub (pc := 161) hC dX3_conflictComes_161 ?_
  refine G_iload (pc := 162) (i := 5) hC dX3_conflictComes_162 rfl ?_
  refine G_iload (pc := 164) (i := 7) hC dX3_conflictComes_164 rfl ?_
  refine G_iadd (pc := 166) hC dX3_conflictComes_166 ?_
  refine G_iload (pc := 167) (i := 6) hC dX3_conflictComes_167 rfl ?_
  refine G_iload (pc := 169) (i := 8) hC dX3_conflictComes_169 rfl ?_
  refine G_isub (pc := 171) hC dX3_conflictComes_171 ?_
  obtain ⟨hb, hw⟩ := hw
  refine G_callV (pc := 172) (n := 7) (C := "MergeWorkbenchModel") (b := a0) (As := [.int (4 : Int32), .int p1, .int p2, .int (p3 + v7), .int (p4 - v8), .int (p5 + v7), .int (p6 - v8)]) (rest := []) hC (m_X3_chunkComes hJ hw) (lw_V q3749 q3751 qs72 q108 q3752) hd_X3_chunkComes (by decide) (rcv (C := RX3) (T := TX3) (N := 61) hC hb rfl) rfl rfl (st_c cat_e (Nat.le_of_ble_eq_true rfl)) dX3_conflictComes_172 (kU fun M1 hw => ?_)
  refine G_iload (pc := 175) (i := 8) hC dX3_conflictComes_175 rfl ?_
  refine G_if_le (pc := 177) (tgt := 201) hC dX3_conflictComes_177 (by decide) (fun hc => ?_) (fun hc => ?_)
  · replace hw := hw.1 hc
    refine G_loc (lv' := [some (va_rf (some a0)), some (.int p1), some (.int p2), some (.int p3), some (.int p4), some (.int p5), some (.int p6), none, none]) ⟨Or.inr rfl, Or.inr rfl, Or.inr rfl, Or.inr rfl, Or.inr rfl, Or.inr rfl, Or.inr rfl, Or.inl rfl, Or.inl rfl, trivial⟩ ?_
    exact g_X3_conflictComes_201 hJ hC hQ hin   M1 hw
  · replace hw := hw.2 hc
    refine G_aload_n (pc := 180) (i := 0) hC dX3_conflictComes_180 rfl rfl ?_
    refine G_iconst (pc := 181) (v := 3) hC dX3_conflictComes_181 (by decide) ?_
    refine G_iload_n (pc := 182) (i := 2) hC dX3_conflictComes_182 rfl rfl ?_
    refine G_iload_n (pc := 183) (i := 2) hC dX3_conflictComes_183 rfl rfl ?_
    refine G_iload (pc := 184) (i := 4) hC dX3_conflictComes_184 rfl ?_
    refine G_iload (pc := 186) (i := 8) hC dX3_conflictComes_186 rfl ?_
    refine G_isub (pc := 188) hC dX3_conflictComes_188 ?_
    refine G_iload (pc := 189) (i := 4) hC dX3_conflictComes_189 rfl ?_
    refine G_iload (pc := 191) (i := 6) hC dX3_conflictComes_191 rfl ?_
    refine G_iload (pc := 193) (i := 8) hC dX3_conflictComes_193 rfl ?_
    refine G_isub (pc := 195) hC dX3_conflictComes_195 ?_
    refine G_iload (pc := 196) (i := 6) hC dX3_conflictComes_196 rfl ?_
    obtain ⟨hb, hw⟩ := hw
    refine G_callV (pc := 198) (n := 7) (C := "MergeWorkbenchModel") (b := a0) (As := [.int (3 : Int32), .int p2, .int p2, .int (p4 - v8), .int p4, .int (p6 - v8), .int p6]) (rest := []) hC (m_X3_chunkComes hJ hw) (lw_V q3749 q3751 qs72 q108 q3752) hd_X3_chunkComes (by decide) (rcv (C := RX3) (T := TX3) (N := 61) hC hb rfl) rfl rfl (st_c cat_e (Nat.le_of_ble_eq_true rfl)) dX3_conflictComes_198 (kU fun M2 hw => ?_)
    refine G_loc (lv' := [some (va_rf (some a0)), some (.int p1), some (.int p2), some (.int p3), some (.int p4), some (.int p5), some (.int p6), none, none]) ⟨Or.inr rfl, Or.inr rfl, Or.inr rfl, Or.inr rfl, Or.inr rfl, Or.inr rfl, Or.inr rfl, Or.inl rfl, Or.inl rfl, trivial⟩ ?_
    exact g_X3_conflictComes_201 hJ hC hQ hin   M2 hw
theorem g_X3_conflictComes_125 {k : kT} {F : Nat} {a0 : Nat} {p1 : Int32} {p2 : Int32} {p3 : Int32} {p4 : Int32} {p5 : Int32} {p6 : Int32} {Q : hM → Prop} (hJ : JOK (kl k) (kg k)) (hC : CX k 9 cX3_conflictComes RX3 none 2 40) (hQ : isQ k (PU Q)) (hin : (kt k).name = "conflictComes") : ∀ (v7 : Int32) (v8 : Int32) (M : hM), w_X3_conflictComes_125 (kg k) F a0 p1 p2 p3 p4 p5 p6 Q v7 v8 M → GW k 9 M 125 [some (va_rf (some a0)), some (.int p1), some (.int p2), some (.int p3), some (.int p4), some (.int p5), some (.int p6), some (.int v7), some (.int v8)] [] := by
  intro v7 v8 M hw
  refine G_iload (pc := 125) (i := 7) hC dX3_conflictComes_125 rfl ?_
  refine G_if_le (pc := 127) (tgt := 149) hC dX3_conflictComes_127 (by decide) (fun hc => ?_) (fun hc => ?_)
  · replace hw := hw.1 hc
    exact g_X3_conflictComes_149 hJ hC hQ hin  v7 v8 M hw
  · replace hw := hw.2 hc
    refine G_aload_n (pc := 130) (i := 0) hC dX3_conflictComes_130 rfl rfl ?_
    refine G_iconst (pc := 131) (v := 3) hC dX3_conflictComes_131 (by decide) ?_
    refine G_iload_n (pc := 132) (i := 1) hC dX3_conflictComes_132 rfl rfl ?_
    refine G_iload_n (pc := 133) (i := 1) hC dX3_conflictComes_133 rfl rfl ?_
    refine G_iload_n (pc := 134) (i := 3) hC dX3_conflictComes_134 rfl rfl ?_
    refine G_iload_n (pc := 135) (i := 3) hC dX3_conflictComes_135 rfl rfl ?_
    refine G_iload (pc := 136) (i := 7) hC dX3_conflictComes_136 rfl ?_
    refine G_iadd (pc := 138) hC dX3_conflictComes_138 ?_
    refine G_iload (pc := 139) (i := 5) hC dX3_conflictComes_139 rfl ?_
    refine G_iload (pc := 141) (i := 5) hC dX3_conflictComes_141 rfl ?_
    refine G_iload (pc := 143) (i := 7) hC dX3_conflictComes_143 rfl ?_
    refine G_iadd (pc := 145) hC dX3_conflictComes_145 ?_
    obtain ⟨hb, hw⟩ := hw
    refine G_callV (pc := 146) (n := 7) (C := "MergeWorkbenchModel") (b := a0) (As := [.int (3 : Int32), .int p1, .int p1, .int p3, .int (p3 + v7), .int p5, .int (p5 + v7)]) (rest := []) hC (m_X3_chunkComes hJ hw) (lw_V q3749 q3751 qs72 q108 q3752) hd_X3_chunkComes (by decide) (rcv (C := RX3) (T := TX3) (N := 61) hC hb rfl) rfl rfl (st_c cat_e (Nat.le_of_ble_eq_true rfl)) dX3_conflictComes_146 (kU fun M1 hw => ?_)
    exact g_X3_conflictComes_149 hJ hC hQ hin  v7 v8 M1 hw
theorem g_X3_conflictComes_60 {k : kT} {F : Nat} {a0 : Nat} {p1 : Int32} {p2 : Int32} {p3 : Int32} {p4 : Int32} {p5 : Int32} {p6 : Int32} {Q : hM → Prop} (hJ : JOK (kl k) (kg k)) (hC : CX k 9 cX3_conflictComes RX3 none 2 40) (hQ : isQ k (PU Q)) (hin : (kt k).name = "conflictComes") : ∀ (n : Nat) (v7 : Int32) (v8 : Int32) (M : hM), w_X3_conflictComes_60 (kg k) F a0 p1 p2 p3 p4 p5 p6 Q n v7 v8 M → GW k 9 M 60 [some (va_rf (some a0)), some (.int p1), some (.int p2), some (.int p3), some (.int p4), some (.int p5), some (.int p6), some (.int v7), some (.int v8)] [] := by
  intro n
  induction n with
  | zero =>
    intro v7 v8 M hw
    exact hw.elim
  | succ n ih =>
    intro v7 v8 M hw
    refine G_aload_n (pc := 60) (i := 0) hC dX3_conflictComes_60 rfl rfl ?_
    refine G_getI (pc := 61) (ci := 2) (C := RX3) (T := TX3) (N := 61) (f := 4) hC rfl in_X3 (Nat.le_of_ble_eq_true rfl) q3378 (fun _ h => h) dX3_conflictComes_61 hw (fun x1 hw => ?_)
    refine G_if_eq (pc := 64) (tgt := 125) hC dX3_conflictComes_64 (by decide) (fun hc => ?_) (fun hc => ?_)
    · replace hw := hw.1 hc
      exact g_X3_conflictComes_125 hJ hC hQ hin  v7 v8 M hw
    · replace hw := hw.2 hc
      refine G_iload (pc := 67) (i := 4) hC dX3_conflictComes_67 rfl ?_
      refine G_iload (pc := 69) (i := 8) hC dX3_conflictComes_69 rfl ?_
      refine G_isub (pc := 71) hC dX3_conflictComes_71 ?_
      refine G_iload_n (pc := 72) (i := 3) hC dX3_conflictComes_72 rfl rfl ?_
      refine G_iload (pc := 73) (i := 7) hC dX3_conflictComes_73 rfl ?_
      refine G_iadd (pc := 75) hC dX3_conflictComes_75 ?_
      refine G_icmp_le (pc := 76) (tgt := 125) hC dX3_conflictComes_76 (by decide) (fun hc => ?_) (fun hc => ?_)
      · replace hw := hw.1 hc
        exact g_X3_conflictComes_125 hJ hC hQ hin  v7 v8 M hw
      · replace hw := hw.2 hc
        refine G_iload (pc := 79) (i := 6) hC dX3_conflictComes_79 rfl ?_
        refine G_iload (pc := 81) (i := 8) hC dX3_conflictComes_81 rfl ?_
        refine G_isub (pc := 83) hC dX3_conflictComes_83 ?_
        refine G_iload (pc := 84) (i := 5) hC dX3_conflictComes_84 rfl ?_
        refine G_iload (pc := 86) (i := 7) hC dX3_conflictComes_86 rfl ?_
        refine G_iadd (pc := 88) hC dX3_conflictComes_88 ?_
        refine G_icmp_le (pc := 89) (tgt := 125) hC dX3_conflictComes_89 (by decide) (fun hc => ?_) (fun hc => ?_)
        · replace hw := hw.1 hc
          exact g_X3_conflictComes_125 hJ hC hQ hin  v7 v8 M hw
        · replace hw := hw.2 hc
          refine G_aload_n (pc := 92) (i := 0) hC dX3_conflictComes_92 rfl rfl ?_
          refine G_getF (pc := 93) (ci := 2) (C := RX3) (T := TX3) (N := 61) (f := 41) hC rfl in_X3 (Nat.le_of_ble_eq_true rfl) q3415 (fun _ h => h) dX3_conflictComes_93 hw (fun x2 hw => ?_)
          refine G_iload (pc := 96) (i := 4) hC dX3_conflictComes_96 rfl ?_
          refine G_iload (pc := 98) (i := 8) hC dX3_conflictComes_98 rfl ?_
          refine G_isub (pc := 100) hC dX3_conflictComes_100 ?_
          refine G_iconst (pc := 101) (v := 1) hC dX3_conflictComes_101 (by decide) ?_
          refine G_isub (pc := 102) hC dX3_conflictComes_102 ?_
          refine G_iald (pc := 103) hC dX3_conflictComes_103 hw (fun x3 hw => ?_)
          refine G_aload_n (pc := 104) (i := 0) hC dX3_conflictComes_104 rfl rfl ?_
          refine G_getF (pc := 105) (ci := 2) (C := RX3) (T := TX3) (N := 61) (f := 43) hC rfl in_X3 (Nat.le_of_ble_eq_true rfl) q3417 (fun _ h => h) dX3_conflictComes_105 hw (fun x4 hw => ?_)
          refine G_iload (pc := 108) (i := 6) hC dX3_conflictComes_108 rfl ?_
          refine G_iload (pc := 110) (i := 8) hC dX3_conflictComes_110 rfl ?_
          refine G_isub (pc := 112) hC dX3_conflictComes_112 ?_
          refine G_iconst (pc := 113) (v := 1) hC dX3_conflictComes_113 (by decide) ?_
          refine G_isub (pc := 114) hC dX3_conflictComes_114 ?_
          refine G_iald (pc := 115) hC dX3_conflictComes_115 hw (fun x5 hw => ?_)
          refine G_icmp_ne (pc := 116) (tgt := 125) hC dX3_conflictComes_116 (by decide) (fun hc => ?_) (fun hc => ?_)
          · replace hw := hw.1 hc
            exact g_X3_conflictComes_125 hJ hC hQ hin  v7 v8 M hw
          · replace hw := hw.2 hc
            refine G_iinc (pc := 119) (i := 8) (v := (v8 + (1 : Int32))) (lw := [some (va_rf (some a0)), some (.int p1), some (.int p2), some (.int p3), some (.int p4), some (.int p5), some (.int p6), some (.int v7), some (.int (v8 + (1 : Int32)))]) hC dX3_conflictComes_119 rfl (Nat.le_of_ble_eq_true rfl) rfl rfl ?_
            refine G_goto (pc := 122) (tgt := 60) hC dX3_conflictComes_122 (by decide) ?_
            exact ih v7 (v8 + (1 : Int32)) M hw
theorem g_X3_conflictComes_6 {k : kT} {F : Nat} {a0 : Nat} {p1 : Int32} {p2 : Int32} {p3 : Int32} {p4 : Int32} {p5 : Int32} {p6 : Int32} {Q : hM → Prop} (hJ : JOK (kl k) (kg k)) (hC : CX k 9 cX3_conflictComes RX3 none 2 40) (hQ : isQ k (PU Q)) (hin : (kt k).name = "conflictComes") : ∀ (n : Nat) (v7 : Int32) (v8 : Int32) (M : hM), w_X3_conflictComes_6 (kg k) F a0 p1 p2 p3 p4 p5 p6 Q n v7 v8 M → GW k 9 M 6 [some (va_rf (some a0)), some (.int p1), some (.int p2), some (.int p3), some (.int p4), some (.int p5), some (.int p6), some (.int v7), some (.int v8)] [] := by
  intro n
  induction n with
  | zero =>
    intro v7 v8 M hw
    exact hw.elim
  | succ n ih =>
    intro v7 v8 M hw
    refine G_aload_n (pc := 6) (i := 0) hC dX3_conflictComes_6 rfl rfl ?_
    refine G_getI (pc := 7) (ci := 2) (C := RX3) (T := TX3) (N := 61) (f := 4) hC rfl in_X3 (Nat.le_of_ble_eq_true rfl) q3378 (fun _ h => h) dX3_conflictComes_7 hw (fun x1 hw => ?_)
    refine G_if_eq (pc := 10) (tgt := 60) hC dX3_conflictComes_10 (by decide) (fun hc => ?_) (fun hc => ?_)
    · replace hw := hw.1 hc
      exact g_X3_conflictComes_60 hJ hC hQ hin _ v7 v8 M hw
    · replace hw := hw.2 hc
      refine G_iload_n (pc := 13) (i := 3) hC dX3_conflictComes_13 rfl rfl ?_
      refine G_iload (pc := 14) (i := 7) hC dX3_conflictComes_14 rfl ?_
      refine G_iadd (pc := 16) hC dX3_conflictComes_16 ?_
      refine G_iload (pc := 17) (i := 4) hC dX3_conflictComes_17 rfl ?_
      refine G_icmp_ge (pc := 19) (tgt := 60) hC dX3_conflictComes_19 (by decide) (fun hc => ?_) (fun hc => ?_)
      · replace hw := hw.1 hc
        exact g_X3_conflictComes_60 hJ hC hQ hin _ v7 v8 M hw
      · replace hw := hw.2 hc
        refine G_iload (pc := 22) (i := 5) hC dX3_conflictComes_22 rfl ?_
        refine G_iload (pc := 24) (i := 7) hC dX3_conflictComes_24 rfl ?_
        refine G_iadd (pc := 26) hC dX3_conflictComes_26 ?_
        refine G_iload (pc := 27) (i := 6) hC dX3_conflictComes_27 rfl ?_
        refine G_icmp_ge (pc := 29) (tgt := 60) hC dX3_conflictComes_29 (by decide) (fun hc => ?_) (fun hc => ?_)
        · replace hw := hw.1 hc
          exact g_X3_conflictComes_60 hJ hC hQ hin _ v7 v8 M hw
        · replace hw := hw.2 hc
          refine G_aload_n (pc := 32) (i := 0) hC dX3_conflictComes_32 rfl rfl ?_
          refine G_getF (pc := 33) (ci := 2) (C := RX3) (T := TX3) (N := 61) (f := 41) hC rfl in_X3 (Nat.le_of_ble_eq_true rfl) q3415 (fun _ h => h) dX3_conflictComes_33 hw (fun x2 hw => ?_)
          refine G_iload_n (pc := 36) (i := 3) hC dX3_conflictComes_36 rfl rfl ?_
          refine G_iload (pc := 37) (i := 7) hC dX3_conflictComes_37 rfl ?_
          refine G_iadd (pc := 39) hC dX3_conflictComes_39 ?_
          refine G_iald (pc := 40) hC dX3_conflictComes_40 hw (fun x3 hw => ?_)
          refine G_aload_n (pc := 41) (i := 0) hC dX3_conflictComes_41 rfl rfl ?_
          refine G_getF (pc := 42) (ci := 2) (C := RX3) (T := TX3) (N := 61) (f := 43) hC rfl in_X3 (Nat.le_of_ble_eq_true rfl) q3417 (fun _ h => h) dX3_conflictComes_42 hw (fun x4 hw => ?_)
          refine G_iload (pc := 45) (i := 5) hC dX3_conflictComes_45 rfl ?_
          refine G_iload (pc := 47) (i := 7) hC dX3_conflictComes_47 rfl ?_
          refine G_iadd (pc := 49) hC dX3_conflictComes_49 ?_
          refine G_iald (pc := 50) hC dX3_conflictComes_50 hw (fun x5 hw => ?_)
          refine G_icmp_ne (pc := 51) (tgt := 60) hC dX3_conflictComes_51 (by decide) (fun hc => ?_) (fun hc => ?_)
          · replace hw := hw.1 hc
            exact g_X3_conflictComes_60 hJ hC hQ hin _ v7 v8 M hw
          · replace hw := hw.2 hc
            refine G_iinc (pc := 54) (i := 7) (v := (v7 + (1 : Int32))) (lw := [some (va_rf (some a0)), some (.int p1), some (.int p2), some (.int p3), some (.int p4), some (.int p5), some (.int p6), some (.int (v7 + (1 : Int32))), some (.int v8)]) hC dX3_conflictComes_54 rfl (Nat.le_of_ble_eq_true rfl) rfl rfl ?_
            refine G_goto (pc := 57) (tgt := 6) hC dX3_conflictComes_57 (by decide) ?_
            exact ih (v7 + (1 : Int32)) v8 M hw
theorem m_X3_conflictComes {l : Launch} {g : gT} {F : Nat} {a0 : Nat} {p1 : Int32} {p2 : Int32} {p3 : Int32} {p4 : Int32} {p5 : Int32} {p6 : Int32} {M : hM} {Q : hM → Prop} (hJ : JOK l g) (hw : w_X3_conflictComes g F a0 p1 p2 p3 p4 p5 p6 M Q) : MG l g yX3_conflictComes (ws_ yX3_conflictComes cX3_conflictComes 9 none) 2 40 [va_rf (some a0), .int p1, .int p2, .int p3, .int p4, .int p5, .int p6] M (PU Q) := by
  refine MG_of hJ.2.1 (by decide) (cat_r (cat_i (cat_i (cat_i (cat_i (cat_i (cat_i cat_e))))))) (Nat.le_of_ble_eq_true rfl) (fun k hl hg hin hQ hC => ?_)
  subst hl hg
  show GW k 9 M 0 [some (va_rf (some a0)), some (.int p1), some (.int p2), some (.int p3), some (.int p4), some (.int p5), some (.int p6), none, none] []
  refine G_iconst (pc := 0) (v := 0) hC dX3_conflictComes_0 (by decide) ?_
  refine G_istore (pc := 1) (i := 7) (lw := [some (va_rf (some a0)), some (.int p1), some (.int p2), some (.int p3), some (.int p4), some (.int p5), some (.int p6), some (.int (0 : Int32)), none]) hC dX3_conflictComes_1 (Nat.le_of_ble_eq_true rfl) rfl ?_
  refine G_iconst (pc := 3) (v := 0) hC dX3_conflictComes_3 (by decide) ?_
  refine G_istore (pc := 4) (i := 8) (lw := [some (va_rf (some a0)), some (.int p1), some (.int p2), some (.int p3), some (.int p4), some (.int p5), some (.int p6), some (.int (0 : Int32)), some (.int (0 : Int32))]) hC dX3_conflictComes_4 (Nat.le_of_ble_eq_true rfl) rfl ?_
  exact g_X3_conflictComes_6 hJ hC hQ hin _ (0 : Int32) (0 : Int32) M hw
theorem hd_X3_alike : yX3_alike.cls = "MergeWorkbenchModel" ∧ yX3_alike.cls ≠ "java/lang/invoke/MethodHandle" ∧ yX3_alike.cls ≠ "java/lang/invoke/VarHandle" ∧ (parseMethodDescriptor yX3_alike.desc).map (fun d => d.parameters.length) = some 6 := by decide +kernel
theorem hd_X3_conflictComes : yX3_conflictComes.cls = "MergeWorkbenchModel" ∧ yX3_conflictComes.cls ≠ "java/lang/invoke/MethodHandle" ∧ yX3_conflictComes.cls ≠ "java/lang/invoke/VarHandle" ∧ (parseMethodDescriptor yX3_conflictComes.desc).map (fun d => d.parameters.length) = some 6 := by decide +kernel
def w_X3_regionComes_124 (g : gT) (F : Nat) (a0 : Nat) (p1 : Int32) (p2 : Int32) (p3 : Int32) (p4 : Int32) (p5 : Int32) (p6 : Int32) (Q : hM → Prop) (M : hM) : Prop :=
  Q M
def w_X3_regionComes (g : gT) (F : Nat) (a0 : Nat) (p1 : Int32) (p2 : Int32) (p3 : Int32) (p4 : Int32) (p5 : Int32) (p6 : Int32) (M : hM) (Q : hM → Prop) : Prop :=
  gF M (some a0) 2 41 fun x1 => gF M (some a0) 2 39 fun x2 => w_X3_alike g F x1 p3 p4 x2 p1 p2 M (fun x4 M3 => ((x4 = 0 → gF M3 (some a0) 2 43 fun x5 => gF M3 (some a0) 2 39 fun x6 => w_X3_alike g F x5 p5 p6 x6 p1 p2 M3 (fun x8 M7 => ((x8 = 0 → gF M7 (some a0) 2 41 fun x9 => gF M7 (some a0) 2 43 fun x10 => w_X3_alike g F x9 p3 p4 x10 p5 p6 M7 (fun x12 M11 => ((x12 = 0 → (isC M11 a0 2 ∧ w_X3_conflictComes g F a0 p1 p2 p3 p4 p5 p6 M11 (fun M13 => w_X3_regionComes_124 g F a0 p1 p2 p3 p4 p5 p6 Q M13))) ∧ (¬ (x12 = 0) → (isC M11 a0 2 ∧ w_X3_chunkComes g F a0 (3 : Int32) p1 p2 p3 p4 p5 p6 M11 (fun M14 => w_X3_regionComes_124 g F a0 p1 p2 p3 p4 p5 p6 Q M14)))))) ∧ (¬ (x8 = 0) → (isC M7 a0 2 ∧ w_X3_chunkComes g F a0 (1 : Int32) p1 p2 p3 p4 p5 p6 M7 (fun M15 => w_X3_regionComes_124 g F a0 p1 p2 p3 p4 p5 p6 Q M15)))))) ∧ (¬ (x4 = 0) → (isC M3 a0 2 ∧ w_X3_chunkComes g F a0 (2 : Int32) p1 p2 p3 p4 p5 p6 M3 (fun M16 => w_X3_regionComes_124 g F a0 p1 p2 p3 p4 p5 p6 Q M16)))))
theorem g_X3_regionComes_124 {k : kT} {F : Nat} {a0 : Nat} {p1 : Int32} {p2 : Int32} {p3 : Int32} {p4 : Int32} {p5 : Int32} {p6 : Int32} {Q : hM → Prop} (hJ : JOK (kl k) (kg k)) (hC : CX k 7 cX3_regionComes RX3 none 3 68) (hQ : isQ k (PU Q)) (hin : (kt k).name = "regionComes") : ∀  (M : hM), w_X3_regionComes_124 (kg k) F a0 p1 p2 p3 p4 p5 p6 Q  M → GW k 7 M 124 [some (va_rf (some a0)), some (.int p1), some (.int p2), some (.int p3), some (.int p4), some (.int p5), some (.int p6)] [] := by
  intro  M hw
  exact G_ret (pc := 124) hC hQ dX3_regionComes_124 hw
theorem m_X3_regionComes {l : Launch} {g : gT} {F : Nat} {a0 : Nat} {p1 : Int32} {p2 : Int32} {p3 : Int32} {p4 : Int32} {p5 : Int32} {p6 : Int32} {M : hM} {Q : hM → Prop} (hJ : JOK l g) (hw : w_X3_regionComes g F a0 p1 p2 p3 p4 p5 p6 M Q) : MG l g yX3_regionComes (ws_ yX3_regionComes cX3_regionComes 7 none) 3 68 [va_rf (some a0), .int p1, .int p2, .int p3, .int p4, .int p5, .int p6] M (PU Q) := by
  refine MG_of hJ.2.1 (by decide) (cat_r (cat_i (cat_i (cat_i (cat_i (cat_i (cat_i cat_e))))))) (Nat.le_of_ble_eq_true rfl) (fun k hl hg hin hQ hC => ?_)
  subst hl hg
  show GW k 7 M 0 [some (va_rf (some a0)), some (.int p1), some (.int p2), some (.int p3), some (.int p4), some (.int p5), some (.int p6)] []
  refine G_aload_n (pc := 0) (i := 0) hC dX3_regionComes_0 rfl rfl ?_
  refine G_getF (pc := 1) (ci := 2) (C := RX3) (T := TX3) (N := 61) (f := 41) hC rfl in_X3 (Nat.le_of_ble_eq_true rfl) q3415 (fun _ h => h) dX3_regionComes_1 hw (fun x1 hw => ?_)
  refine G_iload_n (pc := 4) (i := 3) hC dX3_regionComes_4 rfl rfl ?_
  refine G_iload (pc := 5) (i := 4) hC dX3_regionComes_5 rfl ?_
  refine G_aload_n (pc := 7) (i := 0) hC dX3_regionComes_7 rfl rfl ?_
  refine G_getF (pc := 8) (ci := 2) (C := RX3) (T := TX3) (N := 61) (f := 39) hC rfl in_X3 (Nat.le_of_ble_eq_true rfl) q3413 (fun _ h => h) dX3_regionComes_8 hw (fun x2 hw => ?_)
  refine G_iload_n (pc := 11) (i := 1) hC dX3_regionComes_11 rfl rfl ?_
  refine G_iload_n (pc := 12) (i := 2) hC dX3_regionComes_12 rfl rfl ?_
  refine G_callS (pc := 13) (n := 6) (As := [va_rf x1, .int p3, .int p4, va_rf x2, .int p1, .int p2]) (rest := []) hC (m_X3_alike hJ hw) (lw_S q3746 q3747 q108 q3748) hd_X3_alike.2 (by decide) rfl rfl (st_c cat_e (Nat.le_of_ble_eq_true rfl)) dX3_regionComes_13 (kI fun x4 M3 hw => ?_)
  refine G_if_eq (pc := 16) (tgt := 36) hC dX3_regionComes_16 (by decide) (fun hc => ?_) (fun hc => ?_)
  · replace hw := hw.1 hc
    refine G_aload_n (pc := 36) (i := 0) hC dX3_regionComes_36 rfl rfl ?_
    refine G_getF (pc := 37) (ci := 2) (C := RX3) (T := TX3) (N := 61) (f := 43) hC rfl in_X3 (Nat.le_of_ble_eq_true rfl) q3417 (fun _ h => h) dX3_regionComes_37 hw (fun x5 hw => ?_)
    refine G_iload (pc := 40) (i := 5) hC dX3_regionComes_40 rfl ?_
    refine G_iload (pc := 42) (i := 6) hC dX3_regionComes_42 rfl ?_
    refine G_aload_n (pc := 44) (i := 0) hC dX3_regionComes_44 rfl rfl ?_
    refine G_getF (pc := 45) (ci := 2) (C := RX3) (T := TX3) (N := 61) (f := 39) hC rfl in_X3 (Nat.le_of_ble_eq_true rfl) q3413 (fun _ h => h) dX3_regionComes_45 hw (fun x6 hw => ?_)
    refine G_iload_n (pc := 48) (i := 1) hC dX3_regionComes_48 rfl rfl ?_
    refine G_iload_n (pc := 49) (i := 2) hC dX3_regionComes_49 rfl rfl ?_
    refine G_callS (pc := 50) (n := 6) (As := [va_rf x5, .int p5, .int p6, va_rf x6, .int p1, .int p2]) (rest := []) hC (m_X3_alike hJ hw) (lw_S q3746 q3747 q108 q3748) hd_X3_alike.2 (by decide) rfl rfl (st_c cat_e (Nat.le_of_ble_eq_true rfl)) dX3_regionComes_50 (kI fun x8 M7 hw => ?_)
    refine G_if_eq (pc := 53) (tgt := 73) hC dX3_regionComes_53 (by decide) (fun hc => ?_) (fun hc => ?_)
    · replace hw := hw.1 hc
      refine G_aload_n (pc := 73) (i := 0) hC dX3_regionComes_73 rfl rfl ?_
      refine G_getF (pc := 74) (ci := 2) (C := RX3) (T := TX3) (N := 61) (f := 41) hC rfl in_X3 (Nat.le_of_ble_eq_true rfl) q3415 (fun _ h => h) dX3_regionComes_74 hw (fun x9 hw => ?_)
      refine G_iload_n (pc := 77) (i := 3) hC dX3_regionComes_77 rfl rfl ?_
      refine G_iload (pc := 78) (i := 4) hC dX3_regionComes_78 rfl ?_
      refine G_aload_n (pc := 80) (i := 0) hC dX3_regionComes_80 rfl rfl ?_
      refine G_getF (pc := 81) (ci := 2) (C := RX3) (T := TX3) (N := 61) (f := 43) hC rfl in_X3 (Nat.le_of_ble_eq_true rfl) q3417 (fun _ h => h) dX3_regionComes_81 hw (fun x10 hw => ?_)
      refine G_iload (pc := 84) (i := 5) hC dX3_regionComes_84 rfl ?_
      refine G_iload (pc := 86) (i := 6) hC dX3_regionComes_86 rfl ?_
      refine G_callS (pc := 88) (n := 6) (As := [va_rf x9, .int p3, .int p4, va_rf x10, .int p5, .int p6]) (rest := []) hC (m_X3_alike hJ hw) (lw_S q3746 q3747 q108 q3748) hd_X3_alike.2 (by decide) rfl rfl (st_c cat_e (Nat.le_of_ble_eq_true rfl)) dX3_regionComes_88 (kI fun x12 M11 hw => ?_)
      refine G_if_eq (pc := 91) (tgt := 111) hC dX3_regionComes_91 (by decide) (fun hc => ?_) (fun hc => ?_)
      · replace hw := hw.1 hc
        refine G_aload_n (pc := 111) (i := 0) hC dX3_regionComes_111 rfl rfl ?_
        refine G_iload_n (pc := 112) (i := 1) hC dX3_regionComes_112 rfl rfl ?_
        refine G_iload_n (pc := 113) (i := 2) hC dX3_regionComes_113 rfl rfl ?_
        refine G_iload_n (pc := 114) (i := 3) hC dX3_regionComes_114 rfl rfl ?_
        refine G_iload (pc := 115) (i := 4) hC dX3_regionComes_115 rfl ?_
        refine G_iload (pc := 117) (i := 5) hC dX3_regionComes_117 rfl ?_
        refine G_iload (pc := 119) (i := 6) hC dX3_regionComes_119 rfl ?_
        obtain ⟨hb, hw⟩ := hw
        refine G_callV (pc := 121) (n := 6) (C := "MergeWorkbenchModel") (b := a0) (As := [.int p1, .int p2, .int p3, .int p4, .int p5, .int p6]) (rest := []) hC (m_X3_conflictComes hJ hw) (lw_V q3753 q3755 qs73 q108 q3756) hd_X3_conflictComes (by decide) (rcv (C := RX3) (T := TX3) (N := 61) hC hb rfl) rfl rfl (st_c cat_e (Nat.le_of_ble_eq_true rfl)) dX3_regionComes_121 (kU fun M13 hw => ?_)
        exact g_X3_regionComes_124 hJ hC hQ hin   M13 hw
      · replace hw := hw.2 hc
        refine G_aload_n (pc := 94) (i := 0) hC dX3_regionComes_94 rfl rfl ?_
        refine G_iconst (pc := 95) (v := 3) hC dX3_regionComes_95 (by decide) ?_
        refine G_iload_n (pc := 96) (i := 1) hC dX3_regionComes_96 rfl rfl ?_
        refine G_iload_n (pc := 97) (i := 2) hC dX3_regionComes_97 rfl rfl ?_
        refine G_iload_n (pc := 98) (i := 3) hC dX3_regionComes_98 rfl rfl ?_
        refine G_iload (pc := 99) (i := 4) hC dX3_regionComes_99 rfl ?_
        refine G_iload (pc := 101) (i := 5) hC dX3_regionComes_101 rfl ?_
        refine G_iload (pc := 103) (i := 6) hC dX3_regionComes_103 rfl ?_
        obtain ⟨hb, hw⟩ := hw
        refine G_callV (pc := 105) (n := 7) (C := "MergeWorkbenchModel") (b := a0) (As := [.int (3 : Int32), .int p1, .int p2, .int p3, .int p4, .int p5, .int p6]) (rest := []) hC (m_X3_chunkComes hJ hw) (lw_V q3749 q3751 qs72 q108 q3752) hd_X3_chunkComes (by decide) (rcv (C := RX3) (T := TX3) (N := 61) hC hb rfl) rfl rfl (st_c cat_e (Nat.le_of_ble_eq_true rfl)) dX3_regionComes_105 (kU fun M14 hw => ?_)
        refine G_goto (pc := 108) (tgt := 124) hC dX3_regionComes_108 (by decide) ?_
        exact g_X3_regionComes_124 hJ hC hQ hin   M14 hw
    · replace hw := hw.2 hc
      refine G_aload_n (pc := 56) (i := 0) hC dX3_regionComes_56 rfl rfl ?_
      refine G_iconst (pc := 57) (v := 1) hC dX3_regionComes_57 (by decide) ?_
      refine G_iload_n (pc := 58) (i := 1) hC dX3_regionComes_58 rfl rfl ?_
      refine G_iload_n (pc := 59) (i := 2) hC dX3_regionComes_59 rfl rfl ?_
      refine G_iload_n (pc := 60) (i := 3) hC dX3_regionComes_60 rfl rfl ?_
      refine G_iload (pc := 61) (i := 4) hC dX3_regionComes_61 rfl ?_
      refine G_iload (pc := 63) (i := 5) hC dX3_regionComes_63 rfl ?_
      refine G_iload (pc := 65) (i := 6) hC dX3_regionComes_65 rfl ?_
      obtain ⟨hb, hw⟩ := hw
      refine G_callV (pc := 67) (n := 7) (C := "MergeWorkbenchModel") (b := a0) (As := [.int (1 : Int32), .int p1, .int p2, .int p3, .int p4, .int p5, .int p6]) (rest := []) hC (m_X3_chunkComes hJ hw) (lw_V q3749 q3751 qs72 q108 q3752) hd_X3_chunkComes (by decide) (rcv (C := RX3) (T := TX3) (N := 61) hC hb rfl) rfl rfl (st_c cat_e (Nat.le_of_ble_eq_true rfl)) dX3_regionComes_67 (kU fun M15 hw => ?_)
      refine G_goto (pc := 70) (tgt := 124) hC dX3_regionComes_70 (by decide) ?_
      exact g_X3_regionComes_124 hJ hC hQ hin   M15 hw
  · replace hw := hw.2 hc
    refine G_aload_n (pc := 19) (i := 0) hC dX3_regionComes_19 rfl rfl ?_
    refine G_iconst (pc := 20) (v := 2) hC dX3_regionComes_20 (by decide) ?_
    refine G_iload_n (pc := 21) (i := 1) hC dX3_regionComes_21 rfl rfl ?_
    refine G_iload_n (pc := 22) (i := 2) hC dX3_regionComes_22 rfl rfl ?_
    refine G_iload_n (pc := 23) (i := 3) hC dX3_regionComes_23 rfl rfl ?_
    refine G_iload (pc := 24) (i := 4) hC dX3_regionComes_24 rfl ?_
    refine G_iload (pc := 26) (i := 5) hC dX3_regionComes_26 rfl ?_
    refine G_iload (pc := 28) (i := 6) hC dX3_regionComes_28 rfl ?_
    obtain ⟨hb, hw⟩ := hw
    refine G_callV (pc := 30) (n := 7) (C := "MergeWorkbenchModel") (b := a0) (As := [.int (2 : Int32), .int p1, .int p2, .int p3, .int p4, .int p5, .int p6]) (rest := []) hC (m_X3_chunkComes hJ hw) (lw_V q3749 q3751 qs72 q108 q3752) hd_X3_chunkComes (by decide) (rcv (C := RX3) (T := TX3) (N := 61) hC hb rfl) rfl rfl (st_c cat_e (Nat.le_of_ble_eq_true rfl)) dX3_regionComes_30 (kU fun M16 hw => ?_)
    refine G_goto (pc := 33) (tgt := 124) hC dX3_regionComes_33 (by decide) ?_
    exact g_X3_regionComes_124 hJ hC hQ hin   M16 hw
