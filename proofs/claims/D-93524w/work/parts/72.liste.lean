/-! ArrayList.equals -/
set_option maxRecDepth 100000
section L72
variable {l : Launch} {g : gT}
theorem eqBox {F : Nat} {M : hM} {a a' : Nat} {x y : Int32} (h : isBox g M a x) (h' : isBox g M a' y) (huniq : a = a' → x = y) {Q : Int32 → hM → Prop} (hq : Q (if x = y then 1 else 0) M) : w_J21_equals g F (some a) (some a') M Q := by
  refine ⟨fun e => ⟨Or.inr rfl, ?_⟩, fun _ => ⟨(fun e => by cases e), fun _ => ⟨⟨x, h⟩, ⟨y, h'⟩, fun e => absurd e (by decide), fun _ => ⟨a, x, rfl, h, fun c hc => ⟨y, (by cases hc; exact h')⟩, ⟨y, h'⟩, a', y, rfl, h', fun hne => ⟨Or.inl rfl, ?_⟩, fun he => ⟨Or.inr rfl, ?_⟩⟩⟩⟩⟩
  · rw [if_pos (huniq (Option.some.inj e))] at hq; exact hq
  · refine ⟨fun _ => ⟨Or.inl rfl, ?_⟩, fun e => absurd rfl e⟩
    rw [if_neg hne] at hq; exact hq
  · refine ⟨fun e => absurd e (by decide), fun _ => ⟨Or.inr rfl, ?_⟩⟩
    rw [if_pos he] at hq; exact hq
/-- the loop of equalsArrayList: two arrays in M hold boxes -/
theorem eq_loop {M : hM} {b s e e' n n' len : Nat} {ms : Int32} {f f' : Nat → Option Nat} {vs ws : List Int32} (hs : M.1 s = some (.inl (.inr (21, [.int ms, .ref e', .int (nI len)])))) (he : M.1 e = some (.inl (.inl (6, (n, .inr (.inr (.inr (.inr f)))))))) (he' : M.1 e' = some (.inl (.inl (6, (n', .inr (.inr (.inr (.inr f')))))))) (hn : len ≤ n) (hn' : len ≤ n') (hz : n ≤ capZ) (hz' : n' ≤ capZ) (hv : vs.length = len) (hw : ws.length = len)
    (hf : ∀ i, i < len → ∃ a, f i = some a ∧ isBox g M a (vs.getD i 0)) (hf' : ∀ i, i < len → ∃ a, f' i = some a ∧ isBox g M a (ws.getD i 0)) (huniq : ∀ a x y, isBox g M a x → isBox g M a y → x = y) {Q : Int32 → hM → Prop} (hq : Q (if vs = ws then 1 else 0) M) {F0 : Nat} : ∀ (F k : Nat), k ≤ len → len - k < F → (∀ i, i < k → vs.getD i 0 = ws.getD i 0) → w_J2_equalsArrayList_66 g F0 b (some s) Q F ms (nI len) 1 (some e') (some e) (nI k) M
  | 0, k, _, h, _ => absurd h (Nat.not_lt_zero _)
  | F + 1, k, hk, hF, hp => by
    have hc := capZ_lt
    refine ⟨fun q => ?_, fun q => ?_⟩
    · have h1 := (nI_leI (by omega) (by omega)).mp q
      have h2 : k = len := by omega
      subst h2
      have : vs = ws := by
        refine List.ext_getElem (by rw [hv, hw]) fun i h3 h4 => ?_
        have h5 := hp i (by omega)
        rw [List.getD_eq_getElem?_getD, List.getD_eq_getElem?_getD, List.getElem?_eq_getElem h3, List.getElem?_eq_getElem h4] at h5
        exact h5
      rw [if_pos this] at hq
      exact ⟨isC_obj hs, gI_at hs rfl ⟨fun _ => ⟨Or.inr rfl, hq⟩, fun h => absurd rfl h⟩⟩
    · have hlt : k < len := Nat.not_le.mp fun h => q ((nI_leI (by omega) (by omega)).mpr h)
      have ek : (nI k).toNatClampNeg = k := nI_clamp (by omega)
      obtain ⟨a, ha1, ha2⟩ := hf k hlt
      obtain ⟨a', hb1, hb2⟩ := hf' k hlt
      refine gArr_at he ⟨rfl, vp_in_nI' (by show k < n; omega) (by omega), ?_⟩
      dsimp only
      rw [ek, ha1]
      refine gArr_at he' ⟨rfl, vp_in_nI' (by show k < n'; omega) (by omega), ?_⟩
      dsimp only
      rw [ek, hb1]
      refine eqBox ha2 hb2 (fun h => by subst h; exact huniq _ _ _ ha2 hb2) ?_
      by_cases h : vs.getD k 0 = ws.getD k 0
      · rw [if_pos h]
        refine ⟨fun _ => ?_, fun h9 => absurd h9 (by decide)⟩
        rw [nI_1]
        refine eq_loop hs he he' hn hn' hz hz' hv hw hf hf' huniq hq F (k + 1) (by omega) (by omega) fun i hi => ?_
        by_cases hik : i = k
        · subst hik; exact h
        · exact hp i (by omega)
      · rw [if_neg h]
        refine ⟨fun h9 => absurd rfl h9, fun _ => ⟨isC_obj hs, gI_at hs rfl ⟨fun _ => ⟨Or.inl rfl, ?_⟩, fun h9 => absurd rfl h9⟩⟩⟩
        rw [if_neg (fun h9 => h (by rw [h9]))] at hq
        exact hq
theorem c_L_eq (hJ : JR l g) : Jc_L_eq l g := by
  intro b r M Q hw
  unfold L_eq gL at hw
  obtain ⟨xs, is, m, c, hb, s, hrs, hw2⟩ := gAdtAt_e hw
  clear hw
  subst hrs
  obtain ⟨ys, is', m', c', hs, vs, ws, hxv, hyw, hq⟩ := gAdtAt_e hw2
  refine convI fun U hB hR h1 h2 => ?_
  have hc := capZ_lt
  have huniq : ∀ a x y, isBox g M a x → isBox g M a y → x = y := fun a x y hx hy => isBox_eq hJ.1 hB hR hx hy
  by_cases hsb : s = b
  · subst hsb
    rw [hb] at hs
    cases hs
    have hvw : vs = ws := by
      refine List.ext_getElem (hxv.1.symm.trans hyw.1) fun i h3 h4 => ?_
      obtain ⟨a, e1, e2⟩ := hxv.2 i h3
      obtain ⟨a', e3, e4⟩ := hyw.2 i h4
      rw [e1] at e3
      cases e3
      have := huniq _ _ _ e2 e4
      rw [List.getD_eq_getElem?_getD, List.getD_eq_getElem?_getD, List.getElem?_eq_getElem h3, List.getElem?_eq_getElem h4] at this
      exact this
    rw [if_pos hvw] at hq
    obtain ⟨M0, e, ar, e2, hR0, hO, ha⟩ := open_O hJ hR hb
    exact ⟨M0, e2, hR0, mgl (m_J2_equals (F := 0) hJ.1 ⟨fun h => absurd rfl h, fun _ => ⟨M, hq, up_ro hJ hb hO ha e2 h1 h2⟩⟩) rfl rfl⟩
  · obtain ⟨M2, e, e', ar, ar', Y, e2, hR2, hO, ha, hYs, hal, hYe, hok, hbx, hcl⟩ := open_2 hJ hR hb hs (Ne.symm hsb)
    have hs2 := hO.2.2.1 s _ hsb hYs
    have hxz := arOf_len ha
    have hyz := arOf_len hal
    have hup : upM g M2 M := ⟨by rw [e2]; exact Nat.le_refl _, by rw [e2]; exact Nat.le_refl _, h1, h2, fun H hR3 => by
      have := hcl _ H (close_O (is := is) hJ hO ha hR3)
      rwa [gUp_same hb] at this⟩
    -- the end
    have fin : ∀ x : Int32, (x = 0 ∨ x = 1) → Q x M → w_J2_equals_54 g (vs.length + 1) b (some s) (clI g Q) m x M2 := fun x hx hqx => ⟨hO.cls, hO.gm ⟨fun _ => ⟨hx, M, hqx, hup⟩, fun h => absurd rfl h⟩⟩
    refine ⟨M2, e2, hR2, mgl (m_J2_equals (F := vs.length + 1) hJ.1 ⟨fun _ => ⟨isC_obj hs2, fun _ => hO.gm ⟨isC_obj hs2, fun h => absurd rfl h, fun _ => ⟨fun z hz => by cases hz; exact isC_obj hs2, hO.cls, gI_at hs2 rfl (hO.gs (gI_at hs2 rfl ⟨fun h => ?_, fun h => ?_⟩))⟩⟩, fun h => absurd h (by decide)⟩, fun h => absurd (Option.some.inj h) hsb⟩) rfl rfl⟩
    · have hne : ¬ vs = ws := fun h9 => h (by rw [hxv.1, hyw.1, h9])
      rw [if_neg hne] at hq
      exact ⟨fun _ => ⟨isC_obj hs2, gI_at hs2 rfl ⟨fun _ => ⟨Or.inl rfl, fin 0 (Or.inl rfl) hq⟩, fun h => absurd rfl h⟩⟩, fun h => absurd rfl h⟩
    · have hlen : xs.length = ys.length := (nI_eq (by omega) (by omega)).mp h
      refine ⟨fun h => absurd h (by decide), fun _ => gF_at (r := some e') hs2 rfl (hO.ge (hO.len ⟨fun h => ?_, fun _ => ?_⟩))⟩
      · rw [arOf_cap ha] at h
        have := arOf_le ha
        have hl : lCap c ≤ capZ := by
          rcases arOf_g ha with ⟨rfl, -⟩ | ⟨rfl, -⟩ | ⟨n, f, rfl, -, -, h⟩
          · exact Nat.zero_le _
          · exact Nat.zero_le _
          · exact h
        exact absurd h (nI_nlt this (by omega))
      · by_cases hx0 : xs.length = 0
        · have hvs : vs = [] := List.length_eq_zero_iff.mp (by rw [← hxv.1]; exact hx0)
          have hws : ws = [] := List.length_eq_zero_iff.mp (by rw [← hyw.1, ← hlen]; exact hx0)
          subst hvs hws
          rw [if_pos rfl] at hq
          have hlp : w_J2_equalsArrayList_66 g 1 b (some s) (fun x7 M6 => w_J2_equals_54 g 1 b (some s) (clI g Q) m x7 M6) 1 m' (nI xs.length) 1 (some e') (some e) (0 : Int32) M2 := by
            rw [hx0]
            exact ⟨fun _ => ⟨isC_obj hs2, gI_at hs2 rfl ⟨fun _ => ⟨Or.inr rfl, fin 1 (Or.inr rfl) hq⟩, fun h => absurd rfl h⟩⟩, fun h => absurd (show nI 0 ≤ (0 : Int32) by decide) h⟩
          have hle : ∀ k : Nat, k ≤ capZ → nI xs.length ≤ nI k := fun k hk => nI_le (by omega) (by omega)
          rcases hal with ⟨-, -, rfl, he9⟩ | ⟨-, -, rfl, he9⟩ | ⟨n', f', -, rfl, -, -, h5', -⟩
          · exact Or.inl ⟨⟨256, Or.inl rfl, by rw [he9]⟩, fun _ => hlp, fun h => absurd (hle 0 (Nat.zero_le _)) h⟩
          · exact Or.inl ⟨⟨257, Or.inr rfl, by rw [he9]⟩, fun _ => hlp, fun h => absurd (hle 0 (Nat.zero_le _)) h⟩
          · obtain ⟨hed, hYe'⟩ := hYe _ rfl
            exact Or.inr (gArr_at (hO.2.2.1 e' _ hed hYe') ⟨by decide, fun _ => hlp, fun h => absurd (hle n' h5') h⟩)
        · obtain ⟨n, f, rfl, rfl, h3, h4, h5, h6⟩ := arOf_own ha (by omega)
          obtain ⟨n', f', rfl, rfl, h3', h4', h5', h6'⟩ := arOf_own hal (by omega)
          obtain ⟨hed, hYe'⟩ := hYe _ rfl
          have he2 := hO.2.2.1 e' _ hed hYe'
          have boxY : ∀ a x, isBox g M a x → isBox g M2 a x := fun a x hh => by
            rcases hbx a x hh with h9 | h9
            · exact Or.inl h9
            · refine Or.inr (hO.2.2.1 a _ (fun h8 => ?_) h9)
              subst h8
              rcases hh with ⟨j, hj, hj2, -⟩ | hh
              · exact absurd (gRel_lt hR hb).2 (Nat.not_le.mpr (by rw [hj2]; exact gK_lt hJ.1 hB hj))
              · rw [hb] at hh; cases hh
          refine Or.inr (gArr_at he2 ⟨by decide, fun _ => ?_, fun h => absurd (nI_le (show xs.length ≤ n' by omega) (by omega)) h⟩)
          rw [hlen]
          refine eq_loop (Q := fun x7 M6 => w_J2_equals_54 g (vs.length + 1) b (some s) (clI g Q) m x7 M6) (vs := vs) (ws := ws) hs2 hO.2.2.2.2.2 he2 (by omega) (by omega) h5 h5' (by rw [← hxv.1, hlen]) hyw.1.symm (fun i hi => ?_) (fun i hi => ?_) (fun a x y hx hy => isBox_eq hJ.1 hB hR2 hx hy) ?_ (vs.length + 1) 0 (Nat.zero_le _) (by rw [← hxv.1]; omega) (fun i hi => absurd hi (Nat.not_lt_zero _))
          · obtain ⟨a, e1, e3⟩ := hxv.2 i (by rw [← hxv.1]; omega)
            refine ⟨a, ?_, boxY _ _ e3⟩
            rw [h6 i (by omega), List.getD_eq_getElem?_getD, e1]; rfl
          · obtain ⟨a, e1, e3⟩ := hyw.2 i (by rw [← hyw.1]; omega)
            refine ⟨a, ?_, boxY _ _ e3⟩
            show f' i = some a
            rw [h6' i (by omega), List.getD_eq_getElem?_getD, e1]; rfl
          · by_cases hvw : vs = ws
            · rw [if_pos hvw] at hq ⊢
              exact fin 1 (Or.inr rfl) hq
            · rw [if_neg hvw] at hq ⊢
              exact fin 0 (Or.inl rfl) hq
end L72
