/-! METHODS ON KNOWN CELLS as functions (printed by gen/mkhfun.py) -/
set_option maxRecDepth 100000
noncomputable def F_X4_sign (g : xm_G) (p0 : Nat) (h : xm_H) : Option (Int32) :=
 xo_b (xh_fi [(3, 2)] h p0) (fun v1 =>
 (if v1 = 0 then
 some 1 else
 some (-1)))
set_option maxHeartbeats 4000000 in
theorem K_X4_sign {g : xm_G} (hG : xm_Gw g) (p0 : Nat) (h : xm_H) {o : Int32} (e : F_X4_sign g p0 h = some o) {Q : xm_P} {X : xm_X} (hQ : Q (some (.int o)) h) : xm_Run g M_X4_sign 1 [.ref p0] h 0 0 Q X := by
  refine xm_Run.of pn_StringTableau_Row (Nat.le_of_ble_eq_true rfl) (fun Γ hΓ => ?_)
  obtain ⟨P0, hP0, hp⟩ : ∃ P : Int32 → Prop, (∀ o, P o → Q (some (.int o)) h) ∧ P o := ⟨fun o => Q (some (.int o)) h, fun _ h => h, hQ⟩
  clear hQ
  show xm_W g Γ 0 [some (.ref p0)] [] h 0 0
  unfold F_X4_sign at e
  refine xw_ald (show xm_Imp g Γ 0 (xi_ald 0 1) from xs_aload_n hΓ dX4_sign_0) rfl ?_
  obtain ⟨v1, e1, e⟩ := xo_b_s e
  refine xw_gi1 (o := (some p0)) (show xm_Imp g Γ 1 (xi_get 3 2 4) from xs_get hG hΓ (ci := 3) (kf := 2) rfl (Nat.le_of_ble_eq_true rfl) q256 dX4_sign_1) rfl e1 ?_
  refine xw_if (show xm_Imp g Γ 4 (xi_if (fun x => x = 0) 11 7) from xs_if_eq hΓ dX4_sign_4 (by decide)) (fun c => ?_) (fun c => ?_)
  · rw [if_pos c] at e
    refine xw_psh (v := (.int (1))) (show xm_Imp g Γ 11 (xi_psh (.int (1)) 12) from xs_iconst hΓ dX4_sign_11 (by decide)) ?_
    have hq := hP0 _ (xl_fin e hp)
    exact xw_iret (show xm_Imp g Γ 12 (xi_iret .int _) from xs_ireturn hΓ rfl dX4_sign_12) (xn_int _) hq
  · rw [if_neg c] at e
    refine xw_psh (v := (.int (-1))) (show xm_Imp g Γ 7 (xi_psh (.int (-1)) 8) from xs_iconst hΓ dX4_sign_7 (by decide)) ?_
    refine xw_goto (show xm_Imp g Γ 8 (xi_goto 12) from xs_goto hΓ dX4_sign_8 (by decide)) ?_
    have hq := hP0 _ (xl_fin e hp)
    exact xw_iret (show xm_Imp g Γ 12 (xi_iret .int _) from xs_ireturn hΓ rfl dX4_sign_12) (xn_int _) hq
noncomputable def F_X9_property (g : xm_G) (p0 : Nat) (p1 : Int32) (h : xm_H) : Option (Int32) :=
 (if p1 = 4 then
 xo_b (xh_fr [(7, 1)] h p0) (fun v1 =>
 xo_b v1 (fun a2 =>
 xo_b (xh_fi [(3, 0)] h a2) (fun v3 =>
 some v3))) else
 (if p1 = 5 then
 xo_b (xh_fr [(7, 1)] h p0) (fun v4 =>
 xo_b v4 (fun a5 =>
 xo_b (xh_fi [(3, 1)] h a5) (fun v6 =>
 some v6))) else
 (if p1 = 6 then
 xo_b (xh_fr [(7, 1)] h p0) (fun v7 =>
 xo_b v7 (fun a8 =>
 xo_b (xh_is 3 h a8) (fun _ =>
 xo_b (F_X4_sign g a8 h) (fun v9 =>
 some v9)))) else
 (if p1 = 7 then
 xo_b (xh_fi [(7, 2)] h p0) (fun v10 =>
 some v10) else
 some (-1)))))
set_option maxHeartbeats 4000000 in
theorem K_X9_property {g : xm_G} (hG : xm_Gw g) (p0 : Nat) (p1 : Int32) (h : xm_H) {o : Int32} (e : F_X9_property g p0 p1 h = some o) {Q : xm_P} {X : xm_X} (hQ : Q (some (.int o)) h) : xm_Run g M_X9_property 2 [.ref p0, .int p1] h 0 0 Q X := by
  refine xm_Run.of pn_StringTableau_MeasureOperation (Nat.le_of_ble_eq_true rfl) (fun Γ hΓ => ?_)
  obtain ⟨P0, hP0, hp⟩ : ∃ P : Int32 → Prop, (∀ o, P o → Q (some (.int o)) h) ∧ P o := ⟨fun o => Q (some (.int o)) h, fun _ h => h, hQ⟩
  clear hQ
  show xm_W g Γ 0 [some (.ref p0), some (.int p1)] [] h 0 0
  unfold F_X9_property at e
  refine xw_ild (show xm_Imp g Γ 0 (xi_ild 1 1) from xs_iload_n hΓ dX9_property_0) rfl ?_
  by_cases c4 : p1 = 4
  · rw [if_pos c4] at e
    refine xw_tsi (show xm_Imp g Γ 1 (xi_tsw 4 7 [32, 40, 48, 56] 61) from xs_tsw hΓ dX9_property_1 (by decide) (by decide) (by decide)) (i := 0) rfl (by rw [c4]; decide) (by decide) ?_
    refine xw_ald (show xm_Imp g Γ 32 (xi_ald 0 33) from xs_aload_n hΓ dX9_property_32) rfl ?_
    obtain ⟨v1, e1, e⟩ := xo_b_s e
    refine xw_gr1 (o := (some p0)) (show xm_Imp g Γ 33 (xi_get 7 1 36) from xs_get hG hΓ (ci := 7) (kf := 1) rfl (Nat.le_of_ble_eq_true rfl) q996 dX9_property_33) rfl e1 ?_
    obtain ⟨a2, ha2, e⟩ := xo_b_s e
    obtain ⟨v3, e1, e⟩ := xo_b_s e
    refine xw_gi1 (o := v1) (show xm_Imp g Γ 36 (xi_get 3 0 39) from xs_getN hG hΓ (ci := 3) (kf := 0) rfl (Nat.le_of_ble_eq_true rfl) q247 dX9_property_36) ha2 e1 ?_
    have hq := hP0 _ (xl_fin e hp)
    exact xw_iret (show xm_Imp g Γ 39 (xi_iret .int _) from xs_ireturn hΓ rfl dX9_property_39) (xn_int _) hq
  rw [if_neg c4] at e
  by_cases c5 : p1 = 5
  · rw [if_pos c5] at e
    refine xw_tsi (show xm_Imp g Γ 1 (xi_tsw 4 7 [32, 40, 48, 56] 61) from xs_tsw hΓ dX9_property_1 (by decide) (by decide) (by decide)) (i := 1) rfl (by rw [c5]; decide) (by decide) ?_
    refine xw_ald (show xm_Imp g Γ 40 (xi_ald 0 41) from xs_aload_n hΓ dX9_property_40) rfl ?_
    obtain ⟨v4, e1, e⟩ := xo_b_s e
    refine xw_gr1 (o := (some p0)) (show xm_Imp g Γ 41 (xi_get 7 1 44) from xs_get hG hΓ (ci := 7) (kf := 1) rfl (Nat.le_of_ble_eq_true rfl) q996 dX9_property_41) rfl e1 ?_
    obtain ⟨a5, ha5, e⟩ := xo_b_s e
    obtain ⟨v6, e1, e⟩ := xo_b_s e
    refine xw_gi1 (o := v4) (show xm_Imp g Γ 44 (xi_get 3 1 47) from xs_getN hG hΓ (ci := 3) (kf := 1) rfl (Nat.le_of_ble_eq_true rfl) q252 dX9_property_44) ha5 e1 ?_
    have hq := hP0 _ (xl_fin e hp)
    exact xw_iret (show xm_Imp g Γ 47 (xi_iret .int _) from xs_ireturn hΓ rfl dX9_property_47) (xn_int _) hq
  rw [if_neg c5] at e
  by_cases c6 : p1 = 6
  · rw [if_pos c6] at e
    refine xw_tsi (show xm_Imp g Γ 1 (xi_tsw 4 7 [32, 40, 48, 56] 61) from xs_tsw hΓ dX9_property_1 (by decide) (by decide) (by decide)) (i := 2) rfl (by rw [c6]; decide) (by decide) ?_
    refine xw_ald (show xm_Imp g Γ 48 (xi_ald 0 49) from xs_aload_n hΓ dX9_property_48) rfl ?_
    obtain ⟨v7, e1, e⟩ := xo_b_s e
    refine xw_gr1 (o := (some p0)) (show xm_Imp g Γ 49 (xi_get 7 1 52) from xs_get hG hΓ (ci := 7) (kf := 1) rfl (Nat.le_of_ble_eq_true rfl) q996 dX9_property_49) rfl e1 ?_
    obtain ⟨a8, ha8, e⟩ := xo_b_s e
    obtain ⟨_, e0, e⟩ := xo_b_s e
    obtain ⟨v9, e1, e⟩ := xo_b_s e
    refine xw_hv0 (o := v7) (show xm_Imp g Γ 52 (xi_vir g 3 M_X4_sign 1 0 55) from xs_invV hG hΓ k_X4_sign rfl (ci := 3) rfl q1790 q1791 q1792 dX9_property_52) (by simp [xm_stk, xv_cat, xc_int, xc_long, xc_float, xc_double, xc_ref]) ha8 e0 (fun Q X hQ => K_X4_sign hG a8 _ e1 hQ) ?_
    have hq := hP0 _ (xl_fin e hp)
    exact xw_iret (show xm_Imp g Γ 55 (xi_iret .int _) from xs_ireturn hΓ rfl dX9_property_55) (xn_int _) hq
  rw [if_neg c6] at e
  by_cases c7 : p1 = 7
  · rw [if_pos c7] at e
    refine xw_tsi (show xm_Imp g Γ 1 (xi_tsw 4 7 [32, 40, 48, 56] 61) from xs_tsw hΓ dX9_property_1 (by decide) (by decide) (by decide)) (i := 3) rfl (by rw [c7]; decide) (by decide) ?_
    refine xw_ald (show xm_Imp g Γ 56 (xi_ald 0 57) from xs_aload_n hΓ dX9_property_56) rfl ?_
    obtain ⟨v10, e1, e⟩ := xo_b_s e
    refine xw_gi1 (o := (some p0)) (show xm_Imp g Γ 57 (xi_get 7 2 60) from xs_get hG hΓ (ci := 7) (kf := 2) rfl (Nat.le_of_ble_eq_true rfl) q997 dX9_property_57) rfl e1 ?_
    have hq := hP0 _ (xl_fin e hp)
    exact xw_iret (show xm_Imp g Γ 60 (xi_iret .int _) from xs_ireturn hΓ rfl dX9_property_60) (xn_int _) hq
  rw [if_neg c7] at e
  refine xw_tsd (show xm_Imp g Γ 1 (xi_tsw 4 7 [32, 40, 48, 56] 61) from xs_tsw hΓ dX9_property_1 (by decide) (by decide) (by decide)) (xm_tsd p1 [(4 : Int32), (5 : Int32), (6 : Int32), (7 : Int32)] (by decide) (And.intro c4 (And.intro c5 (And.intro c6 (And.intro c7 (trivial)))))) (by decide) ?_
  refine xw_psh (v := (.int (-1))) (show xm_Imp g Γ 61 (xi_psh (.int (-1)) 62) from xs_iconst hΓ dX9_property_61 (by decide)) ?_
  have hq := hP0 _ (xl_fin e hp)
  exact xw_iret (show xm_Imp g Γ 62 (xi_iret .int _) from xs_ireturn hΓ rfl dX9_property_62) (xn_int _) hq
noncomputable def F_X10_property (g : xm_G) (p0 : Nat) (p1 : Int32) (h : xm_H) : Option (Int32) :=
 (if p1 = (1 : Int32) then
 xo_b (xh_fi [(8, 1)] h p0) (fun v1 =>
 some v1) else
 (if p1 = (2 : Int32) then
 xo_b (xh_fi [(8, 2)] h p0) (fun v2 =>
 some v2) else
 (if p1 = (3 : Int32) then
 xo_b (xh_fi [(8, 3)] h p0) (fun v3 =>
 some v3) else
 some 0)))
set_option maxHeartbeats 4000000 in
theorem K_X10_property {g : xm_G} (hG : xm_Gw g) (p0 : Nat) (p1 : Int32) (h : xm_H) {o : Int32} (e : F_X10_property g p0 p1 h = some o) {Q : xm_P} {X : xm_X} (hQ : Q (some (.int o)) h) : xm_Run g M_X10_property 1 [.ref p0, .int p1] h 0 0 Q X := by
  refine xm_Run.of pn_StringTableau_GateOperation (Nat.le_of_ble_eq_true rfl) (fun Γ hΓ => ?_)
  obtain ⟨P0, hP0, hp⟩ : ∃ P : Int32 → Prop, (∀ o, P o → Q (some (.int o)) h) ∧ P o := ⟨fun o => Q (some (.int o)) h, fun _ h => h, hQ⟩
  clear hQ
  show xm_W g Γ 0 [some (.ref p0), some (.int p1)] [] h 0 0
  unfold F_X10_property at e
  refine xw_ild (show xm_Imp g Γ 0 (xi_ild 1 1) from xs_iload_n hΓ dX10_property_0) rfl ?_
  refine xw_psh (v := (.int (1))) (show xm_Imp g Γ 1 (xi_psh (.int (1)) 2) from xs_iconst hΓ dX10_property_1 (by decide)) ?_
  refine xw_ic (show xm_Imp g Γ 2 (xi_ic (fun x y => x = y) 5 12) from xs_icmp_ne hΓ dX10_property_2 (by decide)) (fun c => ?_) (fun c => ?_)
  · rw [if_pos c] at e
    refine xw_ald (show xm_Imp g Γ 5 (xi_ald 0 6) from xs_aload_n hΓ dX10_property_5) rfl ?_
    obtain ⟨v1, e1, e⟩ := xo_b_s e
    refine xw_gi1 (o := (some p0)) (show xm_Imp g Γ 6 (xi_get 8 1 9) from xs_get hG hΓ (ci := 8) (kf := 1) rfl (Nat.le_of_ble_eq_true rfl) q1098 dX10_property_6) rfl e1 ?_
    refine xw_goto (show xm_Imp g Γ 9 (xi_goto 37) from xs_goto hΓ dX10_property_9 (by decide)) ?_
    have hq := hP0 _ (xl_fin e hp)
    exact xw_iret (show xm_Imp g Γ 37 (xi_iret .int _) from xs_ireturn hΓ rfl dX10_property_37) (xn_int _) hq
  · rw [if_neg c] at e
    refine xw_ild (show xm_Imp g Γ 12 (xi_ild 1 13) from xs_iload_n hΓ dX10_property_12) rfl ?_
    refine xw_psh (v := (.int (2))) (show xm_Imp g Γ 13 (xi_psh (.int (2)) 14) from xs_iconst hΓ dX10_property_13 (by decide)) ?_
    refine xw_ic (show xm_Imp g Γ 14 (xi_ic (fun x y => x = y) 17 24) from xs_icmp_ne hΓ dX10_property_14 (by decide)) (fun c => ?_) (fun c => ?_)
    · rw [if_pos c] at e
      refine xw_ald (show xm_Imp g Γ 17 (xi_ald 0 18) from xs_aload_n hΓ dX10_property_17) rfl ?_
      obtain ⟨v2, e1, e⟩ := xo_b_s e
      refine xw_gi1 (o := (some p0)) (show xm_Imp g Γ 18 (xi_get 8 2 21) from xs_get hG hΓ (ci := 8) (kf := 2) rfl (Nat.le_of_ble_eq_true rfl) q1099 dX10_property_18) rfl e1 ?_
      refine xw_goto (show xm_Imp g Γ 21 (xi_goto 37) from xs_goto hΓ dX10_property_21 (by decide)) ?_
      have hq := hP0 _ (xl_fin e hp)
      exact xw_iret (show xm_Imp g Γ 37 (xi_iret .int _) from xs_ireturn hΓ rfl dX10_property_37) (xn_int _) hq
    · rw [if_neg c] at e
      refine xw_ild (show xm_Imp g Γ 24 (xi_ild 1 25) from xs_iload_n hΓ dX10_property_24) rfl ?_
      refine xw_psh (v := (.int (3))) (show xm_Imp g Γ 25 (xi_psh (.int (3)) 26) from xs_iconst hΓ dX10_property_25 (by decide)) ?_
      refine xw_ic (show xm_Imp g Γ 26 (xi_ic (fun x y => x = y) 29 36) from xs_icmp_ne hΓ dX10_property_26 (by decide)) (fun c => ?_) (fun c => ?_)
      · rw [if_pos c] at e
        refine xw_ald (show xm_Imp g Γ 29 (xi_ald 0 30) from xs_aload_n hΓ dX10_property_29) rfl ?_
        obtain ⟨v3, e1, e⟩ := xo_b_s e
        refine xw_gi1 (o := (some p0)) (show xm_Imp g Γ 30 (xi_get 8 3 33) from xs_get hG hΓ (ci := 8) (kf := 3) rfl (Nat.le_of_ble_eq_true rfl) q1100 dX10_property_30) rfl e1 ?_
        refine xw_goto (show xm_Imp g Γ 33 (xi_goto 37) from xs_goto hΓ dX10_property_33 (by decide)) ?_
        have hq := hP0 _ (xl_fin e hp)
        exact xw_iret (show xm_Imp g Γ 37 (xi_iret .int _) from xs_ireturn hΓ rfl dX10_property_37) (xn_int _) hq
      · rw [if_neg c] at e
        refine xw_psh (v := (.int (0))) (show xm_Imp g Γ 36 (xi_psh (.int (0)) 37) from xs_iconst hΓ dX10_property_36 (by decide)) ?_
        have hq := hP0 _ (xl_fin e hp)
        exact xw_iret (show xm_Imp g Γ 37 (xi_iret .int _) from xs_ireturn hΓ rfl dX10_property_37) (xn_int _) hq
noncomputable def F_J4_appendNull (g : xm_G) (p0 : Nat) (h : xm_H) (bc : Nat) (bs : Nat) (Q : Option Nat → xm_H → Prop) : Prop :=
 xt_b (xh_fi [(14, 3)] h p0) (fun v1 =>
 xt_b (xh_is 14 h p0) (fun _ =>
 xt_c bc bs (fun m2 m3 => F_J4_ensureCapacityInternal g p0 (v1 + 4) h m2 m3 (fun h4 =>
 xt_b (xh_fi [(14, 3)] h4 p0) (fun v6 =>
 xt_b (xh_fr [(14, 0)] h4 p0) (fun v7 =>
 xt_b (xh_is 14 h4 p0) (fun _ =>
 xt_b (F_J4_isLatin1 g p0 h4) (fun v8 =>
 (if v8 = 0 then
 False else
 xt_b v7 (fun a9 =>
 xt_b (xh_si .byte h4 a9 v6 ((110 : Int32).toInt8.toInt32)) (fun h10 =>
 xt_b (xh_si .byte h10 a9 (v6 + 1) ((117 : Int32).toInt8.toInt32)) (fun h11 =>
 xt_b (xh_si .byte h11 a9 ((v6 + 1) + 1) ((108 : Int32).toInt8.toInt32)) (fun h12 =>
 xt_b (xh_si .byte h12 a9 (((v6 + 1) + 1) + 1) ((108 : Int32).toInt8.toInt32)) (fun h13 =>
 xt_b (xh_w [(14, 3)] h13 p0 (.int ((((v6 + 1) + 1) + 1) + 1))) (fun h14 =>
 Q (some p0) h14)))))))))))))))
set_option maxHeartbeats 4000000 in
theorem K_J4_appendNull {g : xm_G} (hG : xm_Gw g) (p0 : Nat) (h : xm_H) (bc : Nat) (bs : Nat) {Q : Option Nat → xm_H → Prop} (e : F_J4_appendNull g p0 h bc bs Q) : xm_Run g M_J4_appendNull 10 [.ref p0] h bc bs (fun v h' => ∃ r, v = some (va_rf r) ∧ Q r h') xm_no := by
  refine xm_Run.of pn_java_lang_AbstractStringBuilder (Nat.le_of_ble_eq_true rfl) (fun Γ hΓ => ?_)
  show xm_W g Γ 0 [some (.ref p0), none, none] [] h bc bs
  unfold F_J4_appendNull at e
  refine xw_ald (show xm_Imp g Γ 0 (xi_ald 0 1) from xs_aload_n hΓ dJ4_appendNull_0) rfl ?_
  refine xw_ald (show xm_Imp g Γ 1 (xi_ald 0 2) from xs_aload_n hΓ dJ4_appendNull_1) rfl ?_
  obtain ⟨v1, e1, e⟩ := e
  refine xw_gi1 (o := (some p0)) (show xm_Imp g Γ 2 (xi_get 14 3 5) from xs_get hG hΓ (ci := 14) (kf := 3) rfl (Nat.le_of_ble_eq_true rfl) q332 dJ4_appendNull_2) rfl e1 ?_
  refine xw_psh (v := (.int (4))) (show xm_Imp g Γ 5 (xi_psh (.int (4)) 6) from xs_iconst hΓ dJ4_appendNull_5 (by decide)) ?_
  refine xw_ii (show xm_Imp g Γ 6 (xi_ii (fun x y => x + y) 7) from xs_iadd hΓ dJ4_appendNull_6) ?_
  obtain ⟨_, e0, e⟩ := e
  obtain ⟨m2, m3, ⟨em1, em2⟩, e⟩ := e
  refine xw_tvu1 (o := (some p0)) (show xm_Imp g Γ 7 (xi_vir g 14 M_J4_ensureCapacityInternal 9 1 10) from xs_invVp hG hΓ k_J4_ensureCapacityInternal rfl (ci := 14) rfl q426 q428 q464 rfl q427 dJ4_appendNull_7) rfl rfl e0 em1 em2 (K_J4_ensureCapacityInternal hG p0 (v1 + 4) _ _ _ e) (fun h4 e => ?_)
  refine xw_ald (show xm_Imp g Γ 10 (xi_ald 0 11) from xs_aload_n hΓ dJ4_appendNull_10) rfl ?_
  obtain ⟨v6, e1, e⟩ := e
  refine xw_gi1 (o := (some p0)) (show xm_Imp g Γ 11 (xi_get 14 3 14) from xs_get hG hΓ (ci := 14) (kf := 3) rfl (Nat.le_of_ble_eq_true rfl) q332 dJ4_appendNull_11) rfl e1 ?_
  refine xw_ist (ls' := [some (.ref p0), some (.int v6), none]) (show xm_Imp g Γ 14 (xi_ist 1 15) from xs_istore_n hΓ dJ4_appendNull_14 (Nat.le_of_ble_eq_true rfl)) rfl ?_
  refine xw_ald (show xm_Imp g Γ 15 (xi_ald 0 16) from xs_aload_n hΓ dJ4_appendNull_15) rfl ?_
  obtain ⟨v7, e1, e⟩ := e
  refine xw_gr1 (o := (some p0)) (show xm_Imp g Γ 16 (xi_get 14 0 19) from xs_get hG hΓ (ci := 14) (kf := 0) rfl (Nat.le_of_ble_eq_true rfl) q328 dJ4_appendNull_16) rfl e1 ?_
  refine xw_asto (x := v7) (ls' := [some (.ref p0), some (.int v6), some (va_rf v7)]) (show xm_Imp g Γ 19 (xi_ast 2 20) from xs_astore_n hΓ dJ4_appendNull_19 (Nat.le_of_ble_eq_true rfl)) rfl ?_
  refine xw_ald (show xm_Imp g Γ 20 (xi_ald 0 21) from xs_aload_n hΓ dJ4_appendNull_20) rfl ?_
  obtain ⟨_, e0, e⟩ := e
  obtain ⟨v8, e1, e⟩ := e
  refine xw_hv0 (o := (some p0)) (show xm_Imp g Γ 21 (xi_vir g 14 M_J4_isLatin1 1 0 24) from xs_invU hG hΓ (owner := "java/lang/AbstractStringBuilder") k_J4_isLatin1 rfl (ci := 14) rfl q461 q463 q462 q464 rfl ⟨by decide, by decide⟩ (by decide +kernel) dJ4_appendNull_21) rfl rfl e0 (fun Q X hQ => K_J4_isLatin1 hG p0 _ e1 hQ) ?_
  refine xw_if (show xm_Imp g Γ 24 (xi_if (fun x => x = 0) 62 27) from xs_if_eq hΓ dJ4_appendNull_24 (by decide)) (fun c => ?_) (fun c => ?_)
  · rw [if_pos c] at e
    refine xw_aldo (x := v7) (show xm_Imp g Γ 62 (xi_ald 2 63) from xs_aload_n hΓ dJ4_appendNull_62) rfl ?_
    refine xw_ild (show xm_Imp g Γ 63 (xi_ild 1 64) from xs_iload_n hΓ dJ4_appendNull_63) rfl ?_
    refine xw_psh (v := (.int (110))) (show xm_Imp g Γ 64 (xi_psh (.int (110)) 66) from xs_bipush hΓ dJ4_appendNull_64 (by decide)) ?_
    refine xw_psh (v := (.int (117))) (show xm_Imp g Γ 66 (xi_psh (.int (117)) 68) from xs_bipush hΓ dJ4_appendNull_66 (by decide)) ?_
    refine xw_psh (v := (.int (108))) (show xm_Imp g Γ 68 (xi_psh (.int (108)) 70) from xs_bipush hΓ dJ4_appendNull_68 (by decide)) ?_
    refine xw_psh (v := (.int (108))) (show xm_Imp g Γ 70 (xi_psh (.int (108)) 72) from xs_bipush hΓ dJ4_appendNull_70 (by decide)) ?_
    exact e.elim
  · rw [if_neg c] at e
    refine xw_aldo (x := v7) (show xm_Imp g Γ 27 (xi_ald 2 28) from xs_aload_n hΓ dJ4_appendNull_27) rfl ?_
    refine xw_ild (show xm_Imp g Γ 28 (xi_ild 1 29) from xs_iload_n hΓ dJ4_appendNull_28) rfl ?_
    refine xw_inc (v := (1)) (ls' := [some (.ref p0), some (.int (v6 + 1)), some (va_rf v7)]) (show xm_Imp g Γ 29 (xi_inc 1 (1) 32) from xs_iinc hΓ dJ4_appendNull_29 (by decide) (Nat.le_of_ble_eq_true rfl)) rfl rfl ?_
    refine xw_psh (v := (.int (110))) (show xm_Imp g Γ 32 (xi_psh (.int (110)) 34) from xs_bipush hΓ dJ4_appendNull_32 (by decide)) ?_
    obtain ⟨a9, ha9, e⟩ := e
    obtain ⟨h10, e1, e⟩ := e
    refine xw_hbas (o := v7) (show xm_Imp g Γ 34 (xi_bas 35) from xs_bas hG hΓ dJ4_appendNull_34) ha9 e1 ?_
    refine xw_aldo (x := v7) (show xm_Imp g Γ 35 (xi_ald 2 36) from xs_aload_n hΓ dJ4_appendNull_35) rfl ?_
    refine xw_ild (show xm_Imp g Γ 36 (xi_ild 1 37) from xs_iload_n hΓ dJ4_appendNull_36) rfl ?_
    refine xw_inc (v := (1)) (ls' := [some (.ref p0), some (.int ((v6 + 1) + 1)), some (va_rf v7)]) (show xm_Imp g Γ 37 (xi_inc 1 (1) 40) from xs_iinc hΓ dJ4_appendNull_37 (by decide) (Nat.le_of_ble_eq_true rfl)) rfl rfl ?_
    refine xw_psh (v := (.int (117))) (show xm_Imp g Γ 40 (xi_psh (.int (117)) 42) from xs_bipush hΓ dJ4_appendNull_40 (by decide)) ?_
    obtain ⟨h11, e1, e⟩ := e
    refine xw_hbas (o := v7) (show xm_Imp g Γ 42 (xi_bas 43) from xs_bas hG hΓ dJ4_appendNull_42) ha9 e1 ?_
    refine xw_aldo (x := v7) (show xm_Imp g Γ 43 (xi_ald 2 44) from xs_aload_n hΓ dJ4_appendNull_43) rfl ?_
    refine xw_ild (show xm_Imp g Γ 44 (xi_ild 1 45) from xs_iload_n hΓ dJ4_appendNull_44) rfl ?_
    refine xw_inc (v := (1)) (ls' := [some (.ref p0), some (.int (((v6 + 1) + 1) + 1)), some (va_rf v7)]) (show xm_Imp g Γ 45 (xi_inc 1 (1) 48) from xs_iinc hΓ dJ4_appendNull_45 (by decide) (Nat.le_of_ble_eq_true rfl)) rfl rfl ?_
    refine xw_psh (v := (.int (108))) (show xm_Imp g Γ 48 (xi_psh (.int (108)) 50) from xs_bipush hΓ dJ4_appendNull_48 (by decide)) ?_
    obtain ⟨h12, e1, e⟩ := e
    refine xw_hbas (o := v7) (show xm_Imp g Γ 50 (xi_bas 51) from xs_bas hG hΓ dJ4_appendNull_50) ha9 e1 ?_
    refine xw_aldo (x := v7) (show xm_Imp g Γ 51 (xi_ald 2 52) from xs_aload_n hΓ dJ4_appendNull_51) rfl ?_
    refine xw_ild (show xm_Imp g Γ 52 (xi_ild 1 53) from xs_iload_n hΓ dJ4_appendNull_52) rfl ?_
    refine xw_inc (v := (1)) (ls' := [some (.ref p0), some (.int ((((v6 + 1) + 1) + 1) + 1)), some (va_rf v7)]) (show xm_Imp g Γ 53 (xi_inc 1 (1) 56) from xs_iinc hΓ dJ4_appendNull_53 (by decide) (Nat.le_of_ble_eq_true rfl)) rfl rfl ?_
    refine xw_psh (v := (.int (108))) (show xm_Imp g Γ 56 (xi_psh (.int (108)) 58) from xs_bipush hΓ dJ4_appendNull_56 (by decide)) ?_
    obtain ⟨h13, e1, e⟩ := e
    refine xw_hbas (o := v7) (show xm_Imp g Γ 58 (xi_bas 59) from xs_bas hG hΓ dJ4_appendNull_58) ha9 e1 ?_
    refine xw_goto (show xm_Imp g Γ 59 (xi_goto 76) from xs_goto hΓ dJ4_appendNull_59 (by decide)) ?_
    refine xw_ald (show xm_Imp g Γ 76 (xi_ald 0 77) from xs_aload_n hΓ dJ4_appendNull_76) rfl ?_
    refine xw_ild (show xm_Imp g Γ 77 (xi_ild 1 78) from xs_iload_n hΓ dJ4_appendNull_77) rfl ?_
    obtain ⟨h14, e1, e⟩ := e
    refine xw_pt1 (o := (some p0)) (show xm_Imp g Γ 78 (xi_put 14 3 (.int) 81) from xs_put hG hΓ (ci := 14) (kf := 3) rfl (Nat.le_of_ble_eq_true rfl) rfl (by decide +kernel) q332 dJ4_appendNull_78) rfl (xf_int _) e1 ?_
    refine xw_ald (show xm_Imp g Γ 81 (xi_ald 0 82) from xs_aload_n hΓ dJ4_appendNull_81) rfl ?_
    exact xw_aret (show xm_Imp g Γ 82 (xi_aret _) from xs_areturn hΓ rfl (Or.inl ⟨_, rfl⟩) dJ4_appendNull_82) ⟨_, rfl, e⟩
noncomputable def F_J4_inflateIfNeededFor (g : xm_G) (p0 : Nat) (p1 : Option Nat) (h : xm_H) : Option (Unit) :=
 (if (1 : Int32) = 0 then
 some () else
 xo_b (xh_fi [(14, 1)] h p0) (fun v1 =>
 xo_b p1 (fun a2 =>
 xo_b (xh_is 15 h a2) (fun _ =>
 xo_b (F_J6_coder g a2 h) (fun v3 =>
 (if v1 = v3 then
 some () else
 xo_b (xh_is 14 h p0) (fun _ =>
 xo_b (F_J4_inflate g p0 h) (fun v4 =>
 some ()))))))))
set_option maxHeartbeats 4000000 in
theorem K_J4_inflateIfNeededFor {g : xm_G} (hG : xm_Gw g) (p0 : Nat) (p1 : Option Nat) (h : xm_H) {o : Unit} (e : F_J4_inflateIfNeededFor g p0 p1 h = some o) {Q : xm_P} {X : xm_X} (hQ : Q none h) : xm_Run g M_J4_inflateIfNeededFor 3 [.ref p0, va_rf p1] h 0 0 Q X := by
  refine xm_Run.of2 (ls := [some (.ref p0), some (va_rf p1)]) pn_java_lang_AbstractStringBuilder (by cases p1 <;> exact Nat.le_of_ble_eq_true rfl) (by cases p1 <;> rfl) (fun Γ hΓ => ?_)
  obtain ⟨P0, hP0, hp⟩ : ∃ P : Unit → Prop, (∀ o, P o → Q none h) ∧ P o := ⟨fun o => Q none h, fun _ h => h, hQ⟩
  clear hQ
  show xm_W g Γ 0 [some (.ref p0), some (va_rf p1)] [] h 0 0
  unfold F_J4_inflateIfNeededFor at e
  refine xw_psh (v := (.int 1)) (show xm_Imp g Γ 0 (xi_psh (.int 1) 3) from xs_gst hG hΓ (st_COMPACT_STRINGS hG) q320 (lw_all_tbl q130) rfl q319 dJ4_inflateIfNeededFor_0) ?_
  refine xw_if (show xm_Imp g Γ 3 (xi_if (fun x => x = 0) 21 6) from xs_if_eq hΓ dJ4_inflateIfNeededFor_3 (by decide)) (fun c => ?_) (fun c => ?_)
  · rw [if_pos c] at e
    exact xw_vret (show xm_Imp g Γ 21 (xi_vret _) from xs_return hΓ rfl dJ4_inflateIfNeededFor_21) (hP0 _ (xl_fin e hp))
  · rw [if_neg c] at e
    refine xw_ald (show xm_Imp g Γ 6 (xi_ald 0 7) from xs_aload_n hΓ dJ4_inflateIfNeededFor_6) rfl ?_
    obtain ⟨v1, e1, e⟩ := xo_b_s e
    refine xw_gi1 (o := (some p0)) (show xm_Imp g Γ 7 (xi_get 14 1 10) from xs_get hG hΓ (ci := 14) (kf := 1) rfl (Nat.le_of_ble_eq_true rfl) q329 dJ4_inflateIfNeededFor_7) rfl e1 ?_
    refine xw_aldo (x := p1) (show xm_Imp g Γ 10 (xi_ald 1 11) from xs_aload_n hΓ dJ4_inflateIfNeededFor_10) rfl ?_
    obtain ⟨a2, ha2, e⟩ := xo_b_s e
    obtain ⟨_, e0, e⟩ := xo_b_s e
    obtain ⟨v3, e1, e⟩ := xo_b_s e
    refine xw_hv0 (o := p1) (show xm_Imp g Γ 11 (xi_vir g 15 M_J6_coder 1 0 14) from xs_invV hG hΓ k_J6_coder rfl (ci := 15) rfl q663 q651 q652 dJ4_inflateIfNeededFor_11) (by simp [xm_stk, xv_cat, xc_int, xc_long, xc_float, xc_double, xc_ref]) ha2 e0 (fun Q X hQ => K_J6_coder hG a2 _ e1 hQ) ?_
    refine xw_ic (show xm_Imp g Γ 14 (xi_ic (fun x y => x = y) 21 17) from xs_icmp_eq hΓ dJ4_inflateIfNeededFor_14 (by decide)) (fun c => ?_) (fun c => ?_)
    · rw [if_pos c] at e
      exact xw_vret (show xm_Imp g Γ 21 (xi_vret _) from xs_return hΓ rfl dJ4_inflateIfNeededFor_21) (hP0 _ (xl_fin e hp))
    · rw [if_neg c] at e
      refine xw_ald (show xm_Imp g Γ 17 (xi_ald 0 18) from xs_aload_n hΓ dJ4_inflateIfNeededFor_17) rfl ?_
      obtain ⟨_, e0, e⟩ := xo_b_s e
      obtain ⟨v4, e1, e⟩ := xo_b_s e
      refine xw_hu0 (o := (some p0)) (show xm_Imp g Γ 18 (xi_vir g 14 M_J4_inflate 2 0 21) from xs_invVp hG hΓ k_J4_inflate rfl (ci := 14) rfl q469 q471 q464 rfl q470 dJ4_inflateIfNeededFor_18) rfl rfl e0 (fun Q X hQ => K_J4_inflate hG p0 _ e1 hQ) ?_
      exact xw_vret (show xm_Imp g Γ 21 (xi_vret _) from xs_return hΓ rfl dJ4_inflateIfNeededFor_21) (hP0 _ (xl_fin e hp))
noncomputable def F_J11_inflate (g : xm_G) (p0 : Option Nat) (p1 : Int32) (p2 : Option Nat) (p3 : Int32) (p4 : Int32) (h : xm_H) : Option (Unit) :=
 none
set_option maxHeartbeats 4000000 in
theorem K_J11_inflate {g : xm_G} (hG : xm_Gw g) (p0 : Option Nat) (p1 : Int32) (p2 : Option Nat) (p3 : Int32) (p4 : Int32) (h : xm_H) {o : Unit} (e : F_J11_inflate g p0 p1 p2 p3 p4 h = some o) {Q : xm_P} {X : xm_X} (hQ : Q none h) : xm_Run g M_J11_inflate 1 [va_rf p0, .int p1, va_rf p2, .int p3, .int p4] h 0 0 Q X := by
  refine xm_Run.of2 (ls := [some (va_rf p0), some (.int p1), some (va_rf p2), some (.int p3), some (.int p4)]) pn_java_lang_StringLatin1 (by cases p0 <;> cases p2 <;> exact Nat.le_of_ble_eq_true rfl) (by cases p0 <;> cases p2 <;> rfl) (fun Γ hΓ => ?_)
  obtain ⟨P0, hP0, hp⟩ : ∃ P : Unit → Prop, (∀ o, P o → Q none h) ∧ P o := ⟨fun o => Q none h, fun _ h => h, hQ⟩
  clear hQ
  show xm_W g Γ 0 [some (va_rf p0), some (.int p1), some (va_rf p2), some (.int p3), some (.int p4)] [] h 0 0
  unfold F_J11_inflate at e
  refine xw_aldo (x := p0) (show xm_Imp g Γ 0 (xi_ald 0 1) from xs_aload_n hΓ dJ11_inflate_0) rfl ?_
  refine xw_ild (show xm_Imp g Γ 1 (xi_ild 1 2) from xs_iload_n hΓ dJ11_inflate_1) rfl ?_
  refine xw_aldo (x := p2) (show xm_Imp g Γ 2 (xi_ald 2 3) from xs_aload_n hΓ dJ11_inflate_2) rfl ?_
  refine xw_ild (show xm_Imp g Γ 3 (xi_ild 3 4) from xs_iload_n hΓ dJ11_inflate_3) rfl ?_
  refine xw_ild (show xm_Imp g Γ 4 (xi_ild 4 6) from xs_iload hΓ dJ11_inflate_4) rfl ?_
  cases e
noncomputable def F_J6_getBytes (g : xm_G) (p0 : Nat) (p1 : Option Nat) (p2 : Int32) (p3 : Int32) (h : xm_H) : Option (xm_H) :=
 xo_b (xh_is 15 h p0) (fun _ =>
 xo_b (F_J6_coder g p0 h) (fun v1 =>
 (if v1 = p3 then
 xo_b (xh_fr [(15, 0)] h p0) (fun v2 =>
 xo_b (xh_fr [(15, 0)] h p0) (fun v3 =>
 xo_b v3 (fun a4 =>
 xo_b (xh_len h a4) (fun v5 =>
 xo_b v2 (fun a6 =>
 xo_b p1 (fun a7 =>
 xo_b (xh_cpi .byte h a6 0 a7 (p2 <<< (p3 &&& 31)) v5) (fun h8 =>
 some h8))))))) else
 xo_b (xh_fr [(15, 0)] h p0) (fun v9 =>
 xo_b (xh_fr [(15, 0)] h p0) (fun v10 =>
 xo_b v10 (fun a11 =>
 xo_b (xh_len h a11) (fun v12 =>
 xo_b (F_J11_inflate g v9 0 p1 p2 v12 h) (fun v13 =>
 some h))))))))
set_option maxHeartbeats 4000000 in
theorem K_J6_getBytes {g : xm_G} (hG : xm_Gw g) (p0 : Nat) (p1 : Option Nat) (p2 : Int32) (p3 : Int32) (h : xm_H) {o : xm_H} (e : F_J6_getBytes g p0 p1 p2 p3 h = some o) {Q : xm_P} {X : xm_X} (hQ : Q none o) : xm_Run g M_J6_getBytes 2 [.ref p0, va_rf p1, .int p2, .int p3] h 0 0 Q X := by
  refine xm_Run.of2 (ls := [some (.ref p0), some (va_rf p1), some (.int p2), some (.int p3)]) pn_java_lang_String (by cases p1 <;> exact Nat.le_of_ble_eq_true rfl) (by cases p1 <;> rfl) (fun Γ hΓ => ?_)
  obtain ⟨P0, hP0, hp⟩ : ∃ P : xm_H → Prop, (∀ o, P o → Q none o) ∧ P o := ⟨fun o => Q none o, fun _ h => h, hQ⟩
  clear hQ
  show xm_W g Γ 0 [some (.ref p0), some (va_rf p1), some (.int p2), some (.int p3)] [] h 0 0
  unfold F_J6_getBytes at e
  refine xw_ald (show xm_Imp g Γ 0 (xi_ald 0 1) from xs_aload_n hΓ dJ6_getBytes_0) rfl ?_
  obtain ⟨_, e0, e⟩ := xo_b_s e
  obtain ⟨v1, e1, e⟩ := xo_b_s e
  refine xw_hv0 (o := (some p0)) (show xm_Imp g Γ 1 (xi_vir g 15 M_J6_coder 1 0 4) from xs_invV hG hΓ k_J6_coder rfl (ci := 15) rfl q650 q651 q652 dJ6_getBytes_1) rfl rfl e0 (fun Q X hQ => K_J6_coder hG p0 _ e1 hQ) ?_
  refine xw_ild (show xm_Imp g Γ 4 (xi_ild 3 5) from xs_iload_n hΓ dJ6_getBytes_4) rfl ?_
  refine xw_ic (show xm_Imp g Γ 5 (xi_ic (fun x y => x = y) 8 28) from xs_icmp_ne hΓ dJ6_getBytes_5 (by decide)) (fun c => ?_) (fun c => ?_)
  · rw [if_pos c] at e
    refine xw_ald (show xm_Imp g Γ 8 (xi_ald 0 9) from xs_aload_n hΓ dJ6_getBytes_8) rfl ?_
    obtain ⟨v2, e1, e⟩ := xo_b_s e
    refine xw_gr1 (o := (some p0)) (show xm_Imp g Γ 9 (xi_get 15 0 12) from xs_get hG hΓ (ci := 15) (kf := 0) rfl (Nat.le_of_ble_eq_true rfl) q709 dJ6_getBytes_9) rfl e1 ?_
    refine xw_psh (v := (.int (0))) (show xm_Imp g Γ 12 (xi_psh (.int (0)) 13) from xs_iconst hΓ dJ6_getBytes_12 (by decide)) ?_
    refine xw_aldo (x := p1) (show xm_Imp g Γ 13 (xi_ald 1 14) from xs_aload_n hΓ dJ6_getBytes_13) rfl ?_
    refine xw_ild (show xm_Imp g Γ 14 (xi_ild 2 15) from xs_iload_n hΓ dJ6_getBytes_14) rfl ?_
    refine xw_ild (show xm_Imp g Γ 15 (xi_ild 3 16) from xs_iload_n hΓ dJ6_getBytes_15) rfl ?_
    refine xw_ii (show xm_Imp g Γ 16 (xi_ii (fun x y => x <<< (y &&& 31)) 17) from xs_ishl hΓ dJ6_getBytes_16) ?_
    refine xw_ald (show xm_Imp g Γ 17 (xi_ald 0 18) from xs_aload_n hΓ dJ6_getBytes_17) rfl ?_
    obtain ⟨v3, e1, e⟩ := xo_b_s e
    refine xw_gr1 (o := (some p0)) (show xm_Imp g Γ 18 (xi_get 15 0 21) from xs_get hG hΓ (ci := 15) (kf := 0) rfl (Nat.le_of_ble_eq_true rfl) q709 dJ6_getBytes_18) rfl e1 ?_
    obtain ⟨a4, ha4, e⟩ := xo_b_s e
    obtain ⟨v5, e1, e⟩ := xo_b_s e
    refine xw_hlen (o := v3) (show xm_Imp g Γ 21 (xi_len 22) from xs_len hG hΓ dJ6_getBytes_21) ha4 e1 ?_
    obtain ⟨a6, ha6, e⟩ := xo_b_s e
    obtain ⟨a7, ha7, e⟩ := xo_b_s e
    obtain ⟨h8, e1, e⟩ := xo_b_s e
    refine xw_cpi (o := v2) (o1 := p1) (show xm_Imp g Γ 22 (xi_cpi .byte 25) from xs_cpi hG hΓ (ty := .byte) rfl rfl q668 dJ6_getBytes_22) ha6 ha7 rfl e1 ?_
    refine xw_goto (show xm_Imp g Γ 25 (xi_goto 43) from xs_goto hΓ dJ6_getBytes_25 (by decide)) ?_
    exact xw_vret (show xm_Imp g Γ 43 (xi_vret _) from xs_return hΓ rfl dJ6_getBytes_43) (hP0 _ (xl_fin e hp))
  · rw [if_neg c] at e
    refine xw_ald (show xm_Imp g Γ 28 (xi_ald 0 29) from xs_aload_n hΓ dJ6_getBytes_28) rfl ?_
    obtain ⟨v9, e1, e⟩ := xo_b_s e
    refine xw_gr1 (o := (some p0)) (show xm_Imp g Γ 29 (xi_get 15 0 32) from xs_get hG hΓ (ci := 15) (kf := 0) rfl (Nat.le_of_ble_eq_true rfl) q709 dJ6_getBytes_29) rfl e1 ?_
    refine xw_psh (v := (.int (0))) (show xm_Imp g Γ 32 (xi_psh (.int (0)) 33) from xs_iconst hΓ dJ6_getBytes_32 (by decide)) ?_
    refine xw_aldo (x := p1) (show xm_Imp g Γ 33 (xi_ald 1 34) from xs_aload_n hΓ dJ6_getBytes_33) rfl ?_
    refine xw_ild (show xm_Imp g Γ 34 (xi_ild 2 35) from xs_iload_n hΓ dJ6_getBytes_34) rfl ?_
    refine xw_ald (show xm_Imp g Γ 35 (xi_ald 0 36) from xs_aload_n hΓ dJ6_getBytes_35) rfl ?_
    obtain ⟨v10, e1, e⟩ := xo_b_s e
    refine xw_gr1 (o := (some p0)) (show xm_Imp g Γ 36 (xi_get 15 0 39) from xs_get hG hΓ (ci := 15) (kf := 0) rfl (Nat.le_of_ble_eq_true rfl) q709 dJ6_getBytes_36) rfl e1 ?_
    obtain ⟨a11, ha11, e⟩ := xo_b_s e
    obtain ⟨v12, e1, e⟩ := xo_b_s e
    refine xw_hlen (o := v10) (show xm_Imp g Γ 39 (xi_len 40) from xs_len hG hΓ dJ6_getBytes_39) ha11 e1 ?_
    obtain ⟨v13, e1, e⟩ := xo_b_s e
    refine xw_su5 (show xm_Imp g Γ 40 (xi_inv g M_J11_inflate 1 5 43) from xs_invS hG hΓ k_J11_inflate rfl q669 q474 dJ6_getBytes_40) rfl (fun Q X hQ => K_J11_inflate hG v9 0 p1 p2 v12 _ e1 hQ) ?_
    exact xw_vret (show xm_Imp g Γ 43 (xi_vret _) from xs_return hΓ rfl dJ6_getBytes_43) (hP0 _ (xl_fin e hp))
noncomputable def F_J4_putStringAt (g : xm_G) (p0 : Nat) (p1 : Int32) (p2 : Option Nat) (h : xm_H) : Option (xm_H) :=
 xo_b (xh_is 14 h p0) (fun _ =>
 xo_b (F_J4_inflateIfNeededFor g p0 p2 h) (fun v1 =>
 xo_b (xh_fr [(14, 0)] h p0) (fun v2 =>
 xo_b (xh_fi [(14, 1)] h p0) (fun v3 =>
 xo_b p2 (fun a4 =>
 xo_b (xh_is 15 h a4) (fun _ =>
 xo_b (F_J6_getBytes g a4 v2 p1 v3 h) (fun v5 =>
 some v5)))))))
set_option maxHeartbeats 4000000 in
theorem K_J4_putStringAt {g : xm_G} (hG : xm_Gw g) (p0 : Nat) (p1 : Int32) (p2 : Option Nat) (h : xm_H) {o : xm_H} (e : F_J4_putStringAt g p0 p1 p2 h = some o) {Q : xm_P} {X : xm_X} (hQ : Q none o) : xm_Run g M_J4_putStringAt 4 [.ref p0, .int p1, va_rf p2] h 0 0 Q X := by
  refine xm_Run.of2 (ls := [some (.ref p0), some (.int p1), some (va_rf p2)]) pn_java_lang_AbstractStringBuilder (by cases p2 <;> exact Nat.le_of_ble_eq_true rfl) (by cases p2 <;> rfl) (fun Γ hΓ => ?_)
  obtain ⟨P0, hP0, hp⟩ : ∃ P : xm_H → Prop, (∀ o, P o → Q none o) ∧ P o := ⟨fun o => Q none o, fun _ h => h, hQ⟩
  clear hQ
  show xm_W g Γ 0 [some (.ref p0), some (.int p1), some (va_rf p2)] [] h 0 0
  unfold F_J4_putStringAt at e
  refine xw_ald (show xm_Imp g Γ 0 (xi_ald 0 1) from xs_aload_n hΓ dJ4_putStringAt_0) rfl ?_
  refine xw_aldo (x := p2) (show xm_Imp g Γ 1 (xi_ald 2 2) from xs_aload_n hΓ dJ4_putStringAt_1) rfl ?_
  obtain ⟨_, e0, e⟩ := xo_b_s e
  obtain ⟨v1, e1, e⟩ := xo_b_s e
  refine xw_hu1 (o := (some p0)) (show xm_Imp g Γ 2 (xi_vir g 14 M_J4_inflateIfNeededFor 3 1 5) from xs_invVp hG hΓ k_J4_inflateIfNeededFor rfl (ci := 14) rfl q659 q661 q464 rfl q660 dJ4_putStringAt_2) rfl rfl e0 (fun Q X hQ => K_J4_inflateIfNeededFor hG p0 p2 _ e1 hQ) ?_
  refine xw_aldo (x := p2) (show xm_Imp g Γ 5 (xi_ald 2 6) from xs_aload_n hΓ dJ4_putStringAt_5) rfl ?_
  refine xw_ald (show xm_Imp g Γ 6 (xi_ald 0 7) from xs_aload_n hΓ dJ4_putStringAt_6) rfl ?_
  obtain ⟨v2, e1, e⟩ := xo_b_s e
  refine xw_gr1 (o := (some p0)) (show xm_Imp g Γ 7 (xi_get 14 0 10) from xs_get hG hΓ (ci := 14) (kf := 0) rfl (Nat.le_of_ble_eq_true rfl) q328 dJ4_putStringAt_7) rfl e1 ?_
  refine xw_ild (show xm_Imp g Γ 10 (xi_ild 1 11) from xs_iload_n hΓ dJ4_putStringAt_10) rfl ?_
  refine xw_ald (show xm_Imp g Γ 11 (xi_ald 0 12) from xs_aload_n hΓ dJ4_putStringAt_11) rfl ?_
  obtain ⟨v3, e1, e⟩ := xo_b_s e
  refine xw_gi1 (o := (some p0)) (show xm_Imp g Γ 12 (xi_get 14 1 15) from xs_get hG hΓ (ci := 14) (kf := 1) rfl (Nat.le_of_ble_eq_true rfl) q329 dJ4_putStringAt_12) rfl e1 ?_
  obtain ⟨a4, ha4, e⟩ := xo_b_s e
  obtain ⟨_, e0, e⟩ := xo_b_s e
  obtain ⟨v5, e1, e⟩ := xo_b_s e
  refine xw_hu3 (o := p2) (show xm_Imp g Γ 15 (xi_vir g 15 M_J6_getBytes 2 3 18) from xs_invV hG hΓ k_J6_getBytes rfl (ci := 15) rfl q664 q665 q666 dJ4_putStringAt_15) (by simp [xm_stk, xv_cat, xc_int, xc_long, xc_float, xc_double, xc_ref]) ha4 e0 (fun Q X hQ => K_J6_getBytes hG a4 v2 p1 v3 _ e1 hQ) ?_
  exact xw_vret (show xm_Imp g Γ 18 (xi_vret _) from xs_return hΓ rfl dJ4_putStringAt_18) (hP0 _ (xl_fin e hp))
noncomputable def F_J4_append_3 (g : xm_G) (p0 : Nat) (p1 : Option Nat) (h : xm_H) (bc : Nat) (bs : Nat) (Q : Option Nat → xm_H → Prop) : Prop :=
 (if p1 = none then
 xt_b (xh_is 14 h p0) (fun _ =>
 xt_c bc bs (fun m1 m2 => F_J4_appendNull g p0 h m1 m2 (fun v4 h3 =>
 Q v4 h3))) else
 xt_b p1 (fun a5 =>
 xt_b (xh_is 15 h a5) (fun _ =>
 xt_b (F_J6_length g a5 h) (fun v6 =>
 xt_b (xh_fi [(14, 3)] h p0) (fun v7 =>
 xt_b (xh_is 14 h p0) (fun _ =>
 xt_c bc bs (fun m8 m9 => F_J4_ensureCapacityInternal g p0 (v7 + v6) h m8 m9 (fun h10 =>
 xt_b (xh_fi [(14, 3)] h10 p0) (fun v12 =>
 xt_b (xh_is 14 h10 p0) (fun _ =>
 xt_b (F_J4_putStringAt g p0 v12 p1 h10) (fun v13 =>
 xt_b (xh_fi [(14, 3)] v13 p0) (fun v14 =>
 xt_b (xh_w [(14, 3)] v13 p0 (.int (v14 + v6))) (fun h15 =>
 Q (some p0) h15)))))))))))))
set_option maxHeartbeats 4000000 in
theorem K_J4_append_3 {g : xm_G} (hG : xm_Gw g) (p0 : Nat) (p1 : Option Nat) (h : xm_H) (bc : Nat) (bs : Nat) {Q : Option Nat → xm_H → Prop} (e : F_J4_append_3 g p0 p1 h bc bs Q) : xm_Run g M_J4_append_3 11 [.ref p0, va_rf p1] h bc bs (fun v h' => ∃ r, v = some (va_rf r) ∧ Q r h') xm_no := by
  refine xm_Run.of2 (ls := [some (.ref p0), some (va_rf p1), none]) pn_java_lang_AbstractStringBuilder (by cases p1 <;> exact Nat.le_of_ble_eq_true rfl) (by cases p1 <;> rfl) (fun Γ hΓ => ?_)
  show xm_W g Γ 0 [some (.ref p0), some (va_rf p1), none] [] h bc bs
  unfold F_J4_append_3 at e
  refine xw_aldo (x := p1) (show xm_Imp g Γ 0 (xi_ald 1 1) from xs_aload_n hΓ dJ4_append_3_0) rfl ?_
  refine xw_nul (o := p1) (show xm_Imp g Γ 1 (xi_nul 4 9) from xs_ifnonnull hΓ dJ4_append_3_1 (by decide)) (fun c => ?_) (fun c => ?_)
  · rw [if_pos c] at e
    refine xw_ald (show xm_Imp g Γ 4 (xi_ald 0 5) from xs_aload_n hΓ dJ4_append_3_4) rfl ?_
    obtain ⟨_, e0, e⟩ := e
    obtain ⟨m1, m2, ⟨em1, em2⟩, e⟩ := e
    refine xw_tvr0 (o := (some p0)) (show xm_Imp g Γ 5 (xi_vir g 14 M_J4_appendNull 10 0 8) from xs_invVp hG hΓ k_J4_appendNull rfl (ci := 14) rfl q639 q641 q464 rfl q640 dJ4_append_3_5) rfl rfl e0 em1 em2 (K_J4_appendNull hG p0 _ _ _ e) (fun v4 h3 e => ?_)
    exact xw_areto (show xm_Imp g Γ 8 (xi_aret _) from xs_areturn hΓ rfl (Or.inl ⟨_, rfl⟩) dJ4_append_3_8) ⟨_, rfl, e⟩
  · rw [if_neg c] at e
    refine xw_aldo (x := p1) (show xm_Imp g Γ 9 (xi_ald 1 10) from xs_aload_n hΓ dJ4_append_3_9) rfl ?_
    obtain ⟨a5, ha5, e⟩ := e
    obtain ⟨_, e0, e⟩ := e
    obtain ⟨v6, e1, e⟩ := e
    refine xw_hv0 (o := p1) (show xm_Imp g Γ 10 (xi_vir g 15 M_J6_length 2 0 13) from xs_invV hG hΓ k_J6_length rfl (ci := 15) rfl q646 q647 q648 dJ4_append_3_10) (by simp [xm_stk, xv_cat, xc_int, xc_long, xc_float, xc_double, xc_ref]) ha5 e0 (fun Q X hQ => K_J6_length hG a5 _ e1 hQ) ?_
    refine xw_ist (ls' := [some (.ref p0), some (va_rf p1), some (.int v6)]) (show xm_Imp g Γ 13 (xi_ist 2 14) from xs_istore_n hΓ dJ4_append_3_13 (Nat.le_of_ble_eq_true rfl)) ((xm_s1_o (o := p1) rfl).trans rfl) ?_
    refine xw_ald (show xm_Imp g Γ 14 (xi_ald 0 15) from xs_aload_n hΓ dJ4_append_3_14) rfl ?_
    refine xw_ald (show xm_Imp g Γ 15 (xi_ald 0 16) from xs_aload_n hΓ dJ4_append_3_15) rfl ?_
    obtain ⟨v7, e1, e⟩ := e
    refine xw_gi1 (o := (some p0)) (show xm_Imp g Γ 16 (xi_get 14 3 19) from xs_get hG hΓ (ci := 14) (kf := 3) rfl (Nat.le_of_ble_eq_true rfl) q332 dJ4_append_3_16) rfl e1 ?_
    refine xw_ild (show xm_Imp g Γ 19 (xi_ild 2 20) from xs_iload_n hΓ dJ4_append_3_19) rfl ?_
    refine xw_ii (show xm_Imp g Γ 20 (xi_ii (fun x y => x + y) 21) from xs_iadd hΓ dJ4_append_3_20) ?_
    obtain ⟨_, e0, e⟩ := e
    obtain ⟨m8, m9, ⟨em1, em2⟩, e⟩ := e
    refine xw_tvu1 (o := (some p0)) (show xm_Imp g Γ 21 (xi_vir g 14 M_J4_ensureCapacityInternal 9 1 24) from xs_invVp hG hΓ k_J4_ensureCapacityInternal rfl (ci := 14) rfl q426 q428 q464 rfl q427 dJ4_append_3_21) rfl rfl e0 em1 em2 (K_J4_ensureCapacityInternal hG p0 (v7 + v6) _ _ _ e) (fun h10 e => ?_)
    refine xw_ald (show xm_Imp g Γ 24 (xi_ald 0 25) from xs_aload_n hΓ dJ4_append_3_24) rfl ?_
    refine xw_ald (show xm_Imp g Γ 25 (xi_ald 0 26) from xs_aload_n hΓ dJ4_append_3_25) rfl ?_
    obtain ⟨v12, e1, e⟩ := e
    refine xw_gi1 (o := (some p0)) (show xm_Imp g Γ 26 (xi_get 14 3 29) from xs_get hG hΓ (ci := 14) (kf := 3) rfl (Nat.le_of_ble_eq_true rfl) q332 dJ4_append_3_26) rfl e1 ?_
    refine xw_aldo (x := p1) (show xm_Imp g Γ 29 (xi_ald 1 30) from xs_aload_n hΓ dJ4_append_3_29) rfl ?_
    obtain ⟨_, e0, e⟩ := e
    obtain ⟨v13, e1, e⟩ := e
    refine xw_hu2 (o := (some p0)) (show xm_Imp g Γ 30 (xi_vir g 14 M_J4_putStringAt 4 2 33) from xs_invVp hG hΓ k_J4_putStringAt rfl (ci := 14) rfl q655 q657 q464 rfl q656 dJ4_append_3_30) rfl rfl e0 (fun Q X hQ => K_J4_putStringAt hG p0 v12 p1 _ e1 hQ) ?_
    refine xw_ald (show xm_Imp g Γ 33 (xi_ald 0 34) from xs_aload_n hΓ dJ4_append_3_33) rfl ?_
    refine xw_dup (show xm_Imp g Γ 34 (xi_dup 35) from xs_dup hΓ dJ4_append_3_34) rfl ?_
    obtain ⟨v14, e1, e⟩ := e
    refine xw_gi1 (o := (some p0)) (show xm_Imp g Γ 35 (xi_get 14 3 38) from xs_get hG hΓ (ci := 14) (kf := 3) rfl (Nat.le_of_ble_eq_true rfl) q332 dJ4_append_3_35) rfl e1 ?_
    refine xw_ild (show xm_Imp g Γ 38 (xi_ild 2 39) from xs_iload_n hΓ dJ4_append_3_38) rfl ?_
    refine xw_ii (show xm_Imp g Γ 39 (xi_ii (fun x y => x + y) 40) from xs_iadd hΓ dJ4_append_3_39) ?_
    obtain ⟨h15, e1, e⟩ := e
    refine xw_pt1 (o := (some p0)) (show xm_Imp g Γ 40 (xi_put 14 3 (.int) 43) from xs_put hG hΓ (ci := 14) (kf := 3) rfl (Nat.le_of_ble_eq_true rfl) rfl (by decide +kernel) q332 dJ4_append_3_40) rfl (xf_int _) e1 ?_
    refine xw_ald (show xm_Imp g Γ 43 (xi_ald 0 44) from xs_aload_n hΓ dJ4_append_3_43) rfl ?_
    exact xw_aret (show xm_Imp g Γ 44 (xi_aret _) from xs_areturn hΓ rfl (Or.inl ⟨_, rfl⟩) dJ4_append_3_44) ⟨_, rfl, e⟩
noncomputable def F_J5_append_3 (g : xm_G) (p0 : Nat) (p1 : Option Nat) (h : xm_H) (bc : Nat) (bs : Nat) (Q : Option Nat → xm_H → Prop) : Prop :=
 xt_b (xh_is 14 h p0) (fun _ =>
 xt_c bc bs (fun m1 m2 => F_J4_append_3 g p0 p1 h m1 m2 (fun v4 h3 =>
 Q (some p0) h3)))
set_option maxHeartbeats 4000000 in
theorem K_J5_append_3 {g : xm_G} (hG : xm_Gw g) (p0 : Nat) (p1 : Option Nat) (h : xm_H) (bc : Nat) (bs : Nat) {Q : Option Nat → xm_H → Prop} (e : F_J5_append_3 g p0 p1 h bc bs Q) : xm_Run g M_J5_append_3 12 [.ref p0, va_rf p1] h bc bs (fun v h' => ∃ r, v = some (va_rf r) ∧ Q r h') xm_no := by
  refine xm_Run.of2 (ls := [some (.ref p0), some (va_rf p1)]) pn_java_lang_StringBuilder (by cases p1 <;> exact Nat.le_of_ble_eq_true rfl) (by cases p1 <;> rfl) (fun Γ hΓ => ?_)
  show xm_W g Γ 0 [some (.ref p0), some (va_rf p1)] [] h bc bs
  unfold F_J5_append_3 at e
  refine xw_ald (show xm_Imp g Γ 0 (xi_ald 0 1) from xs_aload_n hΓ dJ5_append_3_0) rfl ?_
  refine xw_aldo (x := p1) (show xm_Imp g Γ 1 (xi_ald 1 2) from xs_aload_n hΓ dJ5_append_3_1) rfl ?_
  obtain ⟨_, e0, e⟩ := e
  obtain ⟨m1, m2, ⟨em1, em2⟩, e⟩ := e
  refine xw_tvr1 (o := (some p0)) (show xm_Imp g Γ 2 (xi_vir g 14 M_J4_append_3 11 1 5) from xs_invP hG hΓ k_J4_append_3 rfl (ci := 14) rfl q636 q3529 q341 q637 (by decide) dJ5_append_3_2) rfl rfl e0 em1 em2 (K_J4_append_3 hG p0 p1 _ _ _ e) (fun v4 h3 e => ?_)
  refine xw_pop (show xm_Imp g Γ 5 (xi_pop 6) from xs_pop hΓ dJ5_append_3_5) (xm_c1_rf v4) ?_
  refine xw_ald (show xm_Imp g Γ 6 (xi_ald 0 7) from xs_aload_n hΓ dJ5_append_3_6) rfl ?_
  exact xw_aret (show xm_Imp g Γ 7 (xi_aret _) from xs_areturn hΓ rfl (Or.inl ⟨_, rfl⟩) dJ5_append_3_7) ⟨_, rfl, e⟩
noncomputable def D_J17_stringSize_16 (l0 : Int32) (l1 : Int32) (s : Int32 × Int32) : Option ((Int32 × Int32) ⊕ (Int32)) :=
 (if 10 ≤ s.2 then
 xl_o (some (10 + l1)) else
 (if l0 ≤ s.1 then
 some (Sum.inl (10 * s.1, s.2 + 1)) else
 xl_o (some (s.2 + l1))))
noncomputable def L_J17_stringSize_16 (l0 : Int32) (l1 : Int32) (s : Int32 × Int32) : Option (Int32) := xl_loop (D_J17_stringSize_16 l0 l1) s
noncomputable def B_J17_stringSize_11 (l0 : Int32) (l1 : Int32) : Option (Int32) :=
 L_J17_stringSize_16 l0 l1 ((-10), 1)
noncomputable def F_J17_stringSize (p0 : Int32) : Option (Int32) :=
 B_J17_stringSize_11 (if p0 < 0 then p0 else -p0) (if p0 < 0 then 1 else 0)
set_option maxHeartbeats 4000000 in
theorem K_J17_stringSize {g : xm_G} (hG : xm_Gw g) {h : xm_H} (p0 : Int32) {o : Int32} (e : F_J17_stringSize p0 = some o) {Q : xm_P} {X : xm_X} (hQ : Q (some (.int o)) h) : xm_Run g M_J17_stringSize 1 [.int p0] h 0 0 Q X := by
  refine xm_Run.of pn_java_lang_Integer (Nat.le_of_ble_eq_true rfl) (fun Γ hΓ => ?_)
  obtain ⟨P0, hP0, hp⟩ : ∃ P : Int32 → Prop, (∀ o, P o → Q (some (.int o)) h) ∧ P o := ⟨fun o => Q (some (.int o)) h, fun _ h => h, hQ⟩
  clear hQ
  show xm_W g Γ 0 [some (.int p0), none, none, none] [] h 0 0
  have hL_16 : ∀ (l0 : Int32) (l1 : Int32) (s : Int32 × Int32) (o : Int32), L_J17_stringSize_16 l0 l1 s = some o → P0 o → xm_W g Γ 16 [some (.int l0), some (.int l1), some (.int s.1), some (.int s.2)] [] h 0 0 := by
    intro l0 l1
    refine xl_rule (WS := fun s : Int32 × Int32 => xm_W g Γ 16 [some (.int l0), some (.int l1), some (.int s.1), some (.int s.2)] [] h 0 0) ?_
    intro s o e hp
    obtain ⟨P1, hP1, hp⟩ : ∃ P : (Int32 × Int32) ⊕ (Int32) → Prop, (∀ o, P o → xl_P (fun s : Int32 × Int32 => xm_W g Γ 16 [some (.int l0), some (.int l1), some (.int s.1), some (.int s.2)] [] h 0 0) P0 o) ∧ P o := ⟨_, fun _ h => h, hp⟩
    unfold D_J17_stringSize_16 at e
    refine xw_ild (show xm_Imp g Γ 16 (xi_ild 3 17) from xs_iload_n hΓ dJ17_stringSize_16) rfl ?_
    refine xw_psh (v := (.int (10))) (show xm_Imp g Γ 17 (xi_psh (.int (10)) 19) from xs_bipush hΓ dJ17_stringSize_17 (by decide)) ?_
    refine xw_ic (show xm_Imp g Γ 19 (xi_ic (fun x y => y ≤ x) 42 22) from xs_icmp_ge hΓ dJ17_stringSize_19 (by decide)) (fun c => ?_) (fun c => ?_)
    · rw [if_pos c] at e
      obtain ⟨_, e, hp⟩ := xl_o_s e (hP1 _ hp)
      refine xw_psh (v := (.int (10))) (show xm_Imp g Γ 42 (xi_psh (.int (10)) 44) from xs_bipush hΓ dJ17_stringSize_42 (by decide)) ?_
      refine xw_ild (show xm_Imp g Γ 44 (xi_ild 1 45) from xs_iload_n hΓ dJ17_stringSize_44) rfl ?_
      refine xw_ii (show xm_Imp g Γ 45 (xi_ii (fun x y => x + y) 46) from xs_iadd hΓ dJ17_stringSize_45) ?_
      exact xw_iret (show xm_Imp g Γ 46 (xi_iret .int _) from xs_ireturn hΓ rfl dJ17_stringSize_46) (xn_int _) (hP0 _ (xl_fin e hp))
    · rw [if_neg c] at e
      refine xw_ild (show xm_Imp g Γ 22 (xi_ild 0 23) from xs_iload_n hΓ dJ17_stringSize_22) rfl ?_
      refine xw_ild (show xm_Imp g Γ 23 (xi_ild 2 24) from xs_iload_n hΓ dJ17_stringSize_23) rfl ?_
      refine xw_ic (show xm_Imp g Γ 24 (xi_ic (fun x y => x ≤ y) 31 27) from xs_icmp_le hΓ dJ17_stringSize_24 (by decide)) (fun c => ?_) (fun c => ?_)
      · rw [if_pos c] at e
        refine xw_psh (v := (.int (10))) (show xm_Imp g Γ 31 (xi_psh (.int (10)) 33) from xs_bipush hΓ dJ17_stringSize_31 (by decide)) ?_
        refine xw_ild (show xm_Imp g Γ 33 (xi_ild 2 34) from xs_iload_n hΓ dJ17_stringSize_33) rfl ?_
        refine xw_ii (show xm_Imp g Γ 34 (xi_ii (fun x y => x * y) 35) from xs_imul hΓ dJ17_stringSize_34) ?_
        refine xw_ist (ls' := [some (.int l0), some (.int l1), some (.int (10 * s.1)), some (.int s.2)]) (show xm_Imp g Γ 35 (xi_ist 2 36) from xs_istore_n hΓ dJ17_stringSize_35 (Nat.le_of_ble_eq_true rfl)) rfl ?_
        refine xw_inc (v := (1)) (ls' := [some (.int l0), some (.int l1), some (.int (10 * s.1)), some (.int (s.2 + 1))]) (show xm_Imp g Γ 36 (xi_inc 3 (1) 39) from xs_iinc hΓ dJ17_stringSize_36 (by decide) (Nat.le_of_ble_eq_true rfl)) rfl rfl ?_
        refine xw_goto (show xm_Imp g Γ 39 (xi_goto 16) from xs_goto hΓ dJ17_stringSize_39 (by decide)) ?_
        have hq := xl_P_inl (hP1 _ (xl_fin e hp)); exact hq
      · rw [if_neg c] at e
        obtain ⟨_, e, hp⟩ := xl_o_s e (hP1 _ hp)
        refine xw_ild (show xm_Imp g Γ 27 (xi_ild 3 28) from xs_iload_n hΓ dJ17_stringSize_27) rfl ?_
        refine xw_ild (show xm_Imp g Γ 28 (xi_ild 1 29) from xs_iload_n hΓ dJ17_stringSize_28) rfl ?_
        refine xw_ii (show xm_Imp g Γ 29 (xi_ii (fun x y => x + y) 30) from xs_iadd hΓ dJ17_stringSize_29) ?_
        exact xw_iret (show xm_Imp g Γ 30 (xi_iret .int _) from xs_ireturn hΓ rfl dJ17_stringSize_30) (xn_int _) (hP0 _ (xl_fin e hp))
  have hB_11 : ∀ (l0 : Int32) (l1 : Int32) (o : Int32), B_J17_stringSize_11 l0 l1 = some o → P0 o → xm_W g Γ 11 [some (.int l0), some (.int l1), none, none] [] h 0 0 := by
    intro l0 l1 o e hp
    unfold B_J17_stringSize_11 at e
    refine xw_psh (v := (.int (-10))) (show xm_Imp g Γ 11 (xi_psh (.int (-10)) 13) from xs_bipush hΓ dJ17_stringSize_11 (by decide)) ?_
    refine xw_ist (ls' := [some (.int l0), some (.int l1), some (.int (-10)), none]) (show xm_Imp g Γ 13 (xi_ist 2 14) from xs_istore_n hΓ dJ17_stringSize_13 (Nat.le_of_ble_eq_true rfl)) rfl ?_
    refine xw_psh (v := (.int (1))) (show xm_Imp g Γ 14 (xi_psh (.int (1)) 15) from xs_iconst hΓ dJ17_stringSize_14 (by decide)) ?_
    refine xw_ist (ls' := [some (.int l0), some (.int l1), some (.int (-10)), some (.int 1)]) (show xm_Imp g Γ 15 (xi_ist 3 16) from xs_istore_n hΓ dJ17_stringSize_15 (Nat.le_of_ble_eq_true rfl)) rfl ?_
    exact hL_16 _ _ _ _ e hp
  unfold F_J17_stringSize at e
  refine xw_psh (v := (.int (1))) (show xm_Imp g Γ 0 (xi_psh (.int (1)) 1) from xs_iconst hΓ dJ17_stringSize_0 (by decide)) ?_
  refine xw_ist (ls' := [some (.int p0), some (.int 1), none, none]) (show xm_Imp g Γ 1 (xi_ist 1 2) from xs_istore_n hΓ dJ17_stringSize_1 (Nat.le_of_ble_eq_true rfl)) rfl ?_
  refine xw_ild (show xm_Imp g Γ 2 (xi_ild 0 3) from xs_iload_n hΓ dJ17_stringSize_2) rfl ?_
  refine xw_if (show xm_Imp g Γ 3 (xi_if (fun x => x < 0) 11 6) from xs_if_lt hΓ dJ17_stringSize_3 (by decide)) (fun c => ?_) (fun c => ?_)
  · simp only [if_pos c] at e
    exact hB_11 _ _ _ e hp
  · simp only [if_neg c] at e
    refine xw_psh (v := (.int (0))) (show xm_Imp g Γ 6 (xi_psh (.int (0)) 7) from xs_iconst hΓ dJ17_stringSize_6 (by decide)) ?_
    refine xw_ist (ls' := [some (.int p0), some (.int 0), none, none]) (show xm_Imp g Γ 7 (xi_ist 1 8) from xs_istore_n hΓ dJ17_stringSize_7 (Nat.le_of_ble_eq_true rfl)) rfl ?_
    refine xw_ild (show xm_Imp g Γ 8 (xi_ild 0 9) from xs_iload_n hΓ dJ17_stringSize_8) rfl ?_
    refine xw_i1 (show xm_Imp g Γ 9 (xi_i1 (fun x => -x) 10) from xs_ineg hΓ dJ17_stringSize_9) ?_
    refine xw_ist (ls' := [some (.int (-p0)), some (.int 0), none, none]) (show xm_Imp g Γ 10 (xi_ist 0 11) from xs_istore_n hΓ dJ17_stringSize_10 (Nat.le_of_ble_eq_true rfl)) rfl ?_
    exact hB_11 _ _ _ e hp
noncomputable def B_J17_getChars_104 (g : xm_G) (l2 : Option Nat) (l5 : Int32) (l6 : Int32) (h : xm_H) : Option (Int32 × xm_H) :=
 (if l6 = 0 then
 some (l5, h) else
 xo_b l2 (fun a5 =>
 xo_b (xh_si .byte h a5 (l5 + (-1)) ((45 : Int32).toInt8.toInt32)) (fun h6 =>
 some (l5 + (-1), h6))))
noncomputable def D_J17_getChars_22 (g : xm_G) (l2 : Option Nat) (l6 : Int32) (s : Int32 × Int32 × xm_H) : Option ((Int32 × Int32 × xm_H) ⊕ (Int32 × xm_H)) :=
 (if ((-100) : Int32) < s.1 then
 xl_o (xo_b (xm_sto g "java/lang/Integer" "DigitOnes" "[B") (fun a1 =>
 xo_b (xh_ai .byte s.2.2 a1 (-s.1)) (fun v2 =>
 xo_b l2 (fun a3 =>
 xo_b (xh_si .byte s.2.2 a3 (s.2.1 + (-1)) (v2.toInt8.toInt32)) (fun h4 =>
 (if ((-9) : Int32) ≤ s.1 then
 B_J17_getChars_104 g l2 (s.2.1 + (-1)) l6 h4 else
 xo_b (xm_sto g "java/lang/Integer" "DigitTens" "[B") (fun a7 =>
 xo_b (xh_ai .byte h4 a7 (-s.1)) (fun v8 =>
 xo_b (xh_si .byte h4 a3 ((s.2.1 + (-1)) + (-1)) (v8.toInt8.toInt32)) (fun h9 =>
 B_J17_getChars_104 g l2 ((s.2.1 + (-1)) + (-1)) l6 h9))))))))) else
 xo_b (xm_sto g "java/lang/Integer" "DigitOnes" "[B") (fun a10 =>
 xo_b (xh_ai .byte s.2.2 a10 (((s.1 / 100) * 100) - s.1)) (fun v11 =>
 xo_b l2 (fun a12 =>
 xo_b (xh_si .byte s.2.2 a12 (s.2.1 + (-1)) (v11.toInt8.toInt32)) (fun h13 =>
 xo_b (xm_sto g "java/lang/Integer" "DigitTens" "[B") (fun a14 =>
 xo_b (xh_ai .byte h13 a14 (((s.1 / 100) * 100) - s.1)) (fun v15 =>
 xo_b (xh_si .byte h13 a12 ((s.2.1 + (-1)) + (-1)) (v15.toInt8.toInt32)) (fun h16 =>
 some (Sum.inl ((s.1 / 100), ((s.2.1 + (-1)) + (-1)), h16))))))))))
noncomputable def L_J17_getChars_22 (g : xm_G) (l2 : Option Nat) (l6 : Int32) (s : Int32 × Int32 × xm_H) : Option (Int32 × xm_H) := xl_loop (D_J17_getChars_22 g l2 l6) s
noncomputable def B_J17_getChars_12 (g : xm_G) (l0 : Int32) (l2 : Option Nat) (l5 : Int32) (s0 : Int32) (h : xm_H) : Option (Int32 × xm_H) :=
 L_J17_getChars_22 g l2 s0 ((if s0 = 0 then -l0 else l0), l5, h)
noncomputable def F_J17_getChars (g : xm_G) (p0 : Int32) (p1 : Int32) (p2 : Option Nat) (h : xm_H) : Option (Int32 × xm_H) :=
 B_J17_getChars_12 g p0 p2 p1 (if 0 ≤ p0 then 0 else 1) h
set_option maxHeartbeats 4000000 in
theorem K_J17_getChars {g : xm_G} (hG : xm_Gw g) (p0 : Int32) (p1 : Int32) (p2 : Option Nat) (h : xm_H) {o : Int32 × xm_H} (e : F_J17_getChars g p0 p1 p2 h = some o) {Q : xm_P} {X : xm_X} (hQ : Q (some (.int o.1)) o.2) : xm_Run g M_J17_getChars 1 [.int p0, .int p1, va_rf p2] h 0 0 Q X := by
  refine xm_Run.of2 (ls := [some (.int p0), some (.int p1), some (va_rf p2), none, none, none, none]) pn_java_lang_Integer (by cases p2 <;> exact Nat.le_of_ble_eq_true rfl) (by cases p2 <;> rfl) (fun Γ hΓ => ?_)
  obtain ⟨P0, hP0, hp⟩ : ∃ P : Int32 × xm_H → Prop, (∀ o, P o → Q (some (.int o.1)) o.2) ∧ P o := ⟨fun o => Q (some (.int o.1)) o.2, fun _ h => h, hQ⟩
  clear hQ
  show xm_W g Γ 0 [some (.int p0), some (.int p1), some (va_rf p2), none, none, none, none] [] h 0 0
  have hB_104 : ∀ (l2 : Option Nat) (l5 : Int32) (l6 : Int32) (h : xm_H) (o : Int32 × xm_H), B_J17_getChars_104 g l2 l5 l6 h = some o → P0 o → xm_W g Γ 104 [none, none, some (va_rf l2), none, none, some (.int l5), some (.int l6)] [] h 0 0 := by
    intro l2 l5 l6 h o e hp
    unfold B_J17_getChars_104 at e
    refine xw_ild (show xm_Imp g Γ 104 (xi_ild 6 106) from xs_iload hΓ dJ17_getChars_104) rfl ?_
    refine xw_if (show xm_Imp g Γ 106 (xi_if (fun x => x = 0) 118 109) from xs_if_eq hΓ dJ17_getChars_106 (by decide)) (fun c => ?_) (fun c => ?_)
    · rw [if_pos c] at e
      refine xw_ild (show xm_Imp g Γ 118 (xi_ild 5 120) from xs_iload hΓ dJ17_getChars_118) rfl ?_
      have hq := hP0 _ (xl_fin e hp)
      exact xw_iret (show xm_Imp g Γ 120 (xi_iret .int _) from xs_ireturn hΓ rfl dJ17_getChars_120) (xn_int _) hq
    · rw [if_neg c] at e
      refine xw_aldo (x := l2) (show xm_Imp g Γ 109 (xi_ald 2 110) from xs_aload_n hΓ dJ17_getChars_109) rfl ?_
      refine xw_inc (v := (-1)) (ls' := [none, none, some (va_rf l2), none, none, some (.int (l5 + (-1))), some (.int l6)]) (show xm_Imp g Γ 110 (xi_inc 5 (-1) 113) from xs_iinc hΓ dJ17_getChars_110 (by decide) (Nat.le_of_ble_eq_true rfl)) rfl rfl ?_
      refine xw_ild (show xm_Imp g Γ 113 (xi_ild 5 115) from xs_iload hΓ dJ17_getChars_113) rfl ?_
      refine xw_psh (v := (.int (45))) (show xm_Imp g Γ 115 (xi_psh (.int (45)) 117) from xs_bipush hΓ dJ17_getChars_115 (by decide)) ?_
      obtain ⟨a5, ha5, e⟩ := xo_b_s e
      obtain ⟨h6, e1, e⟩ := xo_b_s e
      refine xw_hbas (o := l2) (show xm_Imp g Γ 117 (xi_bas 118) from xs_bas hG hΓ dJ17_getChars_117) ha5 e1 ?_
      refine xw_ild (show xm_Imp g Γ 118 (xi_ild 5 120) from xs_iload hΓ dJ17_getChars_118) rfl ?_
      have hq := hP0 _ (xl_fin e hp)
      exact xw_iret (show xm_Imp g Γ 120 (xi_iret .int _) from xs_ireturn hΓ rfl dJ17_getChars_120) (xn_int _) hq
  have hL_22 : ∀ (l2 : Option Nat) (l6 : Int32) (s : Int32 × Int32 × xm_H) (o : Int32 × xm_H), L_J17_getChars_22 g l2 l6 s = some o → P0 o → xm_W g Γ 22 [some (.int s.1), none, some (va_rf l2), none, none, some (.int s.2.1), some (.int l6)] [] s.2.2 0 0 := by
    intro l2 l6
    refine xl_rule (WS := fun s : Int32 × Int32 × xm_H => xm_W g Γ 22 [some (.int s.1), none, some (va_rf l2), none, none, some (.int s.2.1), some (.int l6)] [] s.2.2 0 0) ?_
    intro s o e hp
    obtain ⟨P1, hP1, hp⟩ : ∃ P : (Int32 × Int32 × xm_H) ⊕ (Int32 × xm_H) → Prop, (∀ o, P o → xl_P (fun s : Int32 × Int32 × xm_H => xm_W g Γ 22 [some (.int s.1), none, some (va_rf l2), none, none, some (.int s.2.1), some (.int l6)] [] s.2.2 0 0) P0 o) ∧ P o := ⟨_, fun _ h => h, hp⟩
    unfold D_J17_getChars_22 at e
    refine xw_ild (show xm_Imp g Γ 22 (xi_ild 0 23) from xs_iload_n hΓ dJ17_getChars_22) rfl ?_
    refine xw_psh (v := (.int (-100))) (show xm_Imp g Γ 23 (xi_psh (.int (-100)) 25) from xs_bipush hΓ dJ17_getChars_23 (by decide)) ?_
    refine xw_ic (show xm_Imp g Γ 25 (xi_ic (fun x y => y < x) 72 28) from xs_icmp_gt hΓ dJ17_getChars_25 (by decide)) (fun c => ?_) (fun c => ?_)
    · rw [if_pos c] at e
      obtain ⟨_, e, hp⟩ := xl_o_s e (hP1 _ hp)
      refine xw_aldo (x := l2) (show xm_Imp g Γ 72 (xi_ald 2 73) from xs_aload_n hΓ dJ17_getChars_72) rfl ?_
      refine xw_inc (v := (-1)) (ls' := [some (.int s.1), none, some (va_rf l2), none, none, some (.int (s.2.1 + (-1))), some (.int l6)]) (show xm_Imp g Γ 73 (xi_inc 5 (-1) 76) from xs_iinc hΓ dJ17_getChars_73 (by decide) (Nat.le_of_ble_eq_true rfl)) rfl rfl ?_
      refine xw_ild (show xm_Imp g Γ 76 (xi_ild 5 78) from xs_iload hΓ dJ17_getChars_76) rfl ?_
      refine xw_psho (o := xm_sto g "java/lang/Integer" "DigitOnes" "[B") (show xm_Imp g Γ 78 (xi_psh (xm_stv g "java/lang/Integer" "DigitOnes" "[B") 81) from xs_gst hG hΓ (st_DigitOnes hG) q611 (lw_all_tbl q145) rfl q610 dJ17_getChars_78) (so_DigitOnes hG) ?_
      refine xw_ild (show xm_Imp g Γ 81 (xi_ild 0 82) from xs_iload_n hΓ dJ17_getChars_81) rfl ?_
      refine xw_i1 (show xm_Imp g Γ 82 (xi_i1 (fun x => -x) 83) from xs_ineg hΓ dJ17_getChars_82) ?_
      obtain ⟨a1, ha1, e⟩ := xo_b_s e
      obtain ⟨v2, e1, e⟩ := xo_b_s e
      refine xw_hbal (o := (xm_sto g "java/lang/Integer" "DigitOnes" "[B")) (show xm_Imp g Γ 83 (xi_bal 84) from xs_bal hG hΓ dJ17_getChars_83) ha1 e1 ?_
      obtain ⟨a3, ha3, e⟩ := xo_b_s e
      obtain ⟨h4, e1, e⟩ := xo_b_s e
      refine xw_hbas (o := l2) (show xm_Imp g Γ 84 (xi_bas 85) from xs_bas hG hΓ dJ17_getChars_84) ha3 e1 ?_
      refine xw_ild (show xm_Imp g Γ 85 (xi_ild 0 86) from xs_iload_n hΓ dJ17_getChars_85) rfl ?_
      refine xw_psh (v := (.int (-9))) (show xm_Imp g Γ 86 (xi_psh (.int (-9)) 88) from xs_bipush hΓ dJ17_getChars_86 (by decide)) ?_
      refine xw_ic (show xm_Imp g Γ 88 (xi_ic (fun x y => y ≤ x) 104 91) from xs_icmp_ge hΓ dJ17_getChars_88 (by decide)) (fun c => ?_) (fun c => ?_)
      · rw [if_pos c] at e
        exact xm_lx (hB_104 _ _ _ _ _ e hp) (And.intro rfl (And.intro rfl (And.intro rfl (trivial))))
      · rw [if_neg c] at e
        refine xw_aldo (x := l2) (show xm_Imp g Γ 91 (xi_ald 2 92) from xs_aload_n hΓ dJ17_getChars_91) rfl ?_
        refine xw_inc (v := (-1)) (ls' := [some (.int s.1), none, some (va_rf l2), none, none, some (.int ((s.2.1 + (-1)) + (-1))), some (.int l6)]) (show xm_Imp g Γ 92 (xi_inc 5 (-1) 95) from xs_iinc hΓ dJ17_getChars_92 (by decide) (Nat.le_of_ble_eq_true rfl)) rfl rfl ?_
        refine xw_ild (show xm_Imp g Γ 95 (xi_ild 5 97) from xs_iload hΓ dJ17_getChars_95) rfl ?_
        refine xw_psho (o := xm_sto g "java/lang/Integer" "DigitTens" "[B") (show xm_Imp g Γ 97 (xi_psh (xm_stv g "java/lang/Integer" "DigitTens" "[B") 100) from xs_gst hG hΓ (st_DigitTens hG) q613 (lw_all_tbl q145) rfl q612 dJ17_getChars_97) (so_DigitTens hG) ?_
        refine xw_ild (show xm_Imp g Γ 100 (xi_ild 0 101) from xs_iload_n hΓ dJ17_getChars_100) rfl ?_
        refine xw_i1 (show xm_Imp g Γ 101 (xi_i1 (fun x => -x) 102) from xs_ineg hΓ dJ17_getChars_101) ?_
        obtain ⟨a7, ha7, e⟩ := xo_b_s e
        obtain ⟨v8, e1, e⟩ := xo_b_s e
        refine xw_hbal (o := (xm_sto g "java/lang/Integer" "DigitTens" "[B")) (show xm_Imp g Γ 102 (xi_bal 103) from xs_bal hG hΓ dJ17_getChars_102) ha7 e1 ?_
        obtain ⟨h9, e1, e⟩ := xo_b_s e
        refine xw_hbas (o := l2) (show xm_Imp g Γ 103 (xi_bas 104) from xs_bas hG hΓ dJ17_getChars_103) ha3 e1 ?_
        exact xm_lx (hB_104 _ _ _ _ _ e hp) (And.intro rfl (And.intro rfl (And.intro rfl (trivial))))
    · rw [if_neg c] at e
      refine xw_ild (show xm_Imp g Γ 28 (xi_ild 0 29) from xs_iload_n hΓ dJ17_getChars_28) rfl ?_
      refine xw_psh (v := (.int (100))) (show xm_Imp g Γ 29 (xi_psh (.int (100)) 31) from xs_bipush hΓ dJ17_getChars_29 (by decide)) ?_
      refine xw_id (show xm_Imp g Γ 31 (xi_id (fun x y => x / y) 32) from xs_idiv hΓ dJ17_getChars_31) (by decide) ?_
      refine xw_ist (ls' := [some (.int s.1), none, some (va_rf l2), some (.int (s.1 / 100)), none, some (.int s.2.1), some (.int l6)]) (show xm_Imp g Γ 32 (xi_ist 3 33) from xs_istore_n hΓ dJ17_getChars_32 (Nat.le_of_ble_eq_true rfl)) ((xm_s1_o (o := l2) rfl).trans rfl) ?_
      refine xw_ild (show xm_Imp g Γ 33 (xi_ild 3 34) from xs_iload_n hΓ dJ17_getChars_33) rfl ?_
      refine xw_psh (v := (.int (100))) (show xm_Imp g Γ 34 (xi_psh (.int (100)) 36) from xs_bipush hΓ dJ17_getChars_34 (by decide)) ?_
      refine xw_ii (show xm_Imp g Γ 36 (xi_ii (fun x y => x * y) 37) from xs_imul hΓ dJ17_getChars_36) ?_
      refine xw_ild (show xm_Imp g Γ 37 (xi_ild 0 38) from xs_iload_n hΓ dJ17_getChars_37) rfl ?_
      refine xw_ii (show xm_Imp g Γ 38 (xi_ii (fun x y => x - y) 39) from xs_isub hΓ dJ17_getChars_38) ?_
      refine xw_ist (ls' := [some (.int s.1), none, some (va_rf l2), some (.int (s.1 / 100)), some (.int (((s.1 / 100) * 100) - s.1)), some (.int s.2.1), some (.int l6)]) (show xm_Imp g Γ 39 (xi_ist 4 41) from xs_istore hΓ dJ17_getChars_39 (Nat.le_of_ble_eq_true rfl)) rfl ?_
      refine xw_ild (show xm_Imp g Γ 41 (xi_ild 3 42) from xs_iload_n hΓ dJ17_getChars_41) rfl ?_
      refine xw_ist (ls' := [some (.int (s.1 / 100)), none, some (va_rf l2), some (.int (s.1 / 100)), some (.int (((s.1 / 100) * 100) - s.1)), some (.int s.2.1), some (.int l6)]) (show xm_Imp g Γ 42 (xi_ist 0 43) from xs_istore_n hΓ dJ17_getChars_42 (Nat.le_of_ble_eq_true rfl)) rfl ?_
      refine xw_aldo (x := l2) (show xm_Imp g Γ 43 (xi_ald 2 44) from xs_aload_n hΓ dJ17_getChars_43) rfl ?_
      refine xw_inc (v := (-1)) (ls' := [some (.int (s.1 / 100)), none, some (va_rf l2), some (.int (s.1 / 100)), some (.int (((s.1 / 100) * 100) - s.1)), some (.int (s.2.1 + (-1))), some (.int l6)]) (show xm_Imp g Γ 44 (xi_inc 5 (-1) 47) from xs_iinc hΓ dJ17_getChars_44 (by decide) (Nat.le_of_ble_eq_true rfl)) rfl rfl ?_
      refine xw_ild (show xm_Imp g Γ 47 (xi_ild 5 49) from xs_iload hΓ dJ17_getChars_47) rfl ?_
      refine xw_psho (o := xm_sto g "java/lang/Integer" "DigitOnes" "[B") (show xm_Imp g Γ 49 (xi_psh (xm_stv g "java/lang/Integer" "DigitOnes" "[B") 52) from xs_gst hG hΓ (st_DigitOnes hG) q611 (lw_all_tbl q145) rfl q610 dJ17_getChars_49) (so_DigitOnes hG) ?_
      refine xw_ild (show xm_Imp g Γ 52 (xi_ild 4 54) from xs_iload hΓ dJ17_getChars_52) rfl ?_
      obtain ⟨a10, ha10, e⟩ := xo_b_s e
      obtain ⟨v11, e1, e⟩ := xo_b_s e
      refine xw_hbal (o := (xm_sto g "java/lang/Integer" "DigitOnes" "[B")) (show xm_Imp g Γ 54 (xi_bal 55) from xs_bal hG hΓ dJ17_getChars_54) ha10 e1 ?_
      obtain ⟨a12, ha12, e⟩ := xo_b_s e
      obtain ⟨h13, e1, e⟩ := xo_b_s e
      refine xw_hbas (o := l2) (show xm_Imp g Γ 55 (xi_bas 56) from xs_bas hG hΓ dJ17_getChars_55) ha12 e1 ?_
      refine xw_aldo (x := l2) (show xm_Imp g Γ 56 (xi_ald 2 57) from xs_aload_n hΓ dJ17_getChars_56) rfl ?_
      refine xw_inc (v := (-1)) (ls' := [some (.int (s.1 / 100)), none, some (va_rf l2), some (.int (s.1 / 100)), some (.int (((s.1 / 100) * 100) - s.1)), some (.int ((s.2.1 + (-1)) + (-1))), some (.int l6)]) (show xm_Imp g Γ 57 (xi_inc 5 (-1) 60) from xs_iinc hΓ dJ17_getChars_57 (by decide) (Nat.le_of_ble_eq_true rfl)) rfl rfl ?_
      refine xw_ild (show xm_Imp g Γ 60 (xi_ild 5 62) from xs_iload hΓ dJ17_getChars_60) rfl ?_
      refine xw_psho (o := xm_sto g "java/lang/Integer" "DigitTens" "[B") (show xm_Imp g Γ 62 (xi_psh (xm_stv g "java/lang/Integer" "DigitTens" "[B") 65) from xs_gst hG hΓ (st_DigitTens hG) q613 (lw_all_tbl q145) rfl q612 dJ17_getChars_62) (so_DigitTens hG) ?_
      refine xw_ild (show xm_Imp g Γ 65 (xi_ild 4 67) from xs_iload hΓ dJ17_getChars_65) rfl ?_
      obtain ⟨a14, ha14, e⟩ := xo_b_s e
      obtain ⟨v15, e1, e⟩ := xo_b_s e
      refine xw_hbal (o := (xm_sto g "java/lang/Integer" "DigitTens" "[B")) (show xm_Imp g Γ 67 (xi_bal 68) from xs_bal hG hΓ dJ17_getChars_67) ha14 e1 ?_
      obtain ⟨h16, e1, e⟩ := xo_b_s e
      refine xw_hbas (o := l2) (show xm_Imp g Γ 68 (xi_bas 69) from xs_bas hG hΓ dJ17_getChars_68) ha12 e1 ?_
      refine xw_goto (show xm_Imp g Γ 69 (xi_goto 22) from xs_goto hΓ dJ17_getChars_69 (by decide)) ?_
      have hq := xl_P_inl (hP1 _ (xl_fin e hp)); exact xm_lx (hq) (And.intro rfl (And.intro rfl (And.intro rfl (And.intro rfl (trivial)))))
  have hB_12 : ∀ (l0 : Int32) (l2 : Option Nat) (l5 : Int32) (s0 : Int32) (h : xm_H) (o : Int32 × xm_H), B_J17_getChars_12 g l0 l2 l5 s0 h = some o → P0 o → xm_W g Γ 12 [some (.int l0), none, some (va_rf l2), none, none, some (.int l5), none] [.int s0] h 0 0 := by
    intro l0 l2 l5 s0 h o e hp
    unfold B_J17_getChars_12 at e
    refine xw_ist (ls' := [some (.int l0), none, some (va_rf l2), none, none, some (.int l5), some (.int s0)]) (show xm_Imp g Γ 12 (xi_ist 6 14) from xs_istore hΓ dJ17_getChars_12 (Nat.le_of_ble_eq_true rfl)) rfl ?_
    refine xw_ild (show xm_Imp g Γ 14 (xi_ild 6 16) from xs_iload hΓ dJ17_getChars_14) rfl ?_
    refine xw_if (show xm_Imp g Γ 16 (xi_if (fun x => x = 0) 19 22) from xs_if_ne hΓ dJ17_getChars_16 (by decide)) (fun c => ?_) (fun c => ?_)
    · rw [if_pos c] at e
      refine xw_ild (show xm_Imp g Γ 19 (xi_ild 0 20) from xs_iload_n hΓ dJ17_getChars_19) rfl ?_
      refine xw_i1 (show xm_Imp g Γ 20 (xi_i1 (fun x => -x) 21) from xs_ineg hΓ dJ17_getChars_20) ?_
      refine xw_ist (ls' := [some (.int (-l0)), none, some (va_rf l2), none, none, some (.int l5), some (.int s0)]) (show xm_Imp g Γ 21 (xi_ist 0 22) from xs_istore_n hΓ dJ17_getChars_21 (Nat.le_of_ble_eq_true rfl)) rfl ?_
      exact hL_22 _ _ _ _ e hp
    · rw [if_neg c] at e
      exact hL_22 _ _ _ _ e hp
  unfold F_J17_getChars at e
  refine xw_ild (show xm_Imp g Γ 0 (xi_ild 1 1) from xs_iload_n hΓ dJ17_getChars_0) rfl ?_
  refine xw_ist (ls' := [some (.int p0), some (.int p1), some (va_rf p2), none, none, some (.int p1), none]) (show xm_Imp g Γ 1 (xi_ist 5 3) from xs_istore hΓ dJ17_getChars_1 (Nat.le_of_ble_eq_true rfl)) rfl ?_
  refine xw_ild (show xm_Imp g Γ 3 (xi_ild 0 4) from xs_iload_n hΓ dJ17_getChars_3) rfl ?_
  refine xw_if (show xm_Imp g Γ 4 (xi_if (fun x => 0 ≤ x) 11 7) from xs_if_ge hΓ dJ17_getChars_4 (by decide)) (fun c => ?_) (fun c => ?_)
  · rw [if_pos c] at e
    refine xw_psh (v := (.int (0))) (show xm_Imp g Γ 11 (xi_psh (.int (0)) 12) from xs_iconst hΓ dJ17_getChars_11 (by decide)) ?_
    exact xm_lx (hB_12 _ _ _ _ _ _ e hp) (And.intro rfl (And.intro rfl (And.intro rfl (trivial))))
  · rw [if_neg c] at e
    refine xw_psh (v := (.int (1))) (show xm_Imp g Γ 7 (xi_psh (.int (1)) 8) from xs_iconst hΓ dJ17_getChars_7 (by decide)) ?_
    refine xw_goto (show xm_Imp g Γ 8 (xi_goto 12) from xs_goto hΓ dJ17_getChars_8 (by decide)) ?_
    exact xm_lx (hB_12 _ _ _ _ _ _ e hp) (And.intro rfl (And.intro rfl (And.intro rfl (trivial))))
noncomputable def F_J4_append_2 (g : xm_G) (p0 : Nat) (p1 : Int32) (h : xm_H) (bc : Nat) (bs : Nat) (Q : Option Nat → xm_H → Prop) : Prop :=
 xt_b (xh_fi [(14, 3)] h p0) (fun v1 =>
 xt_b (F_J17_stringSize p1) (fun v2 =>
 xt_b (xh_is 14 h p0) (fun _ =>
 xt_c bc bs (fun m3 m4 => F_J4_ensureCapacityInternal g p0 (v1 + v2) h m3 m4 (fun h5 =>
 xt_b (xh_is 14 h5 p0) (fun _ =>
 xt_b (F_J4_isLatin1 g p0 h5) (fun v7 =>
 (if v7 = 0 then
 xt_b (xh_fr [(14, 0)] h5 p0) (fun v8 =>
 False) else
 xt_b (xh_fr [(14, 0)] h5 p0) (fun v9 =>
 xt_b (F_J17_getChars g p1 (v1 + v2) v9 h5) (fun v10 =>
 xt_b (xh_w [(14, 3)] v10.2 p0 (.int (v1 + v2))) (fun h11 =>
 Q (some p0) h11)))))))))))
set_option maxHeartbeats 4000000 in
theorem K_J4_append_2 {g : xm_G} (hG : xm_Gw g) (p0 : Nat) (p1 : Int32) (h : xm_H) (bc : Nat) (bs : Nat) {Q : Option Nat → xm_H → Prop} (e : F_J4_append_2 g p0 p1 h bc bs Q) : xm_Run g M_J4_append_2 10 [.ref p0, .int p1] h bc bs (fun v h' => ∃ r, v = some (va_rf r) ∧ Q r h') xm_no := by
  refine xm_Run.of pn_java_lang_AbstractStringBuilder (Nat.le_of_ble_eq_true rfl) (fun Γ hΓ => ?_)
  show xm_W g Γ 0 [some (.ref p0), some (.int p1), none, none] [] h bc bs
  unfold F_J4_append_2 at e
  refine xw_ald (show xm_Imp g Γ 0 (xi_ald 0 1) from xs_aload_n hΓ dJ4_append_2_0) rfl ?_
  obtain ⟨v1, e1, e⟩ := e
  refine xw_gi1 (o := (some p0)) (show xm_Imp g Γ 1 (xi_get 14 3 4) from xs_get hG hΓ (ci := 14) (kf := 3) rfl (Nat.le_of_ble_eq_true rfl) q332 dJ4_append_2_1) rfl e1 ?_
  refine xw_ist (ls' := [some (.ref p0), some (.int p1), some (.int v1), none]) (show xm_Imp g Γ 4 (xi_ist 2 5) from xs_istore_n hΓ dJ4_append_2_4 (Nat.le_of_ble_eq_true rfl)) rfl ?_
  refine xw_ild (show xm_Imp g Γ 5 (xi_ild 2 6) from xs_iload_n hΓ dJ4_append_2_5) rfl ?_
  refine xw_ild (show xm_Imp g Γ 6 (xi_ild 1 7) from xs_iload_n hΓ dJ4_append_2_6) rfl ?_
  obtain ⟨v2, e1, e⟩ := e
  refine xw_sv1 (show xm_Imp g Γ 7 (xi_inv g M_J17_stringSize 1 1 10) from xs_invS hG hΓ k_J17_stringSize rfl q604 q605 dJ4_append_2_7) rfl (fun Q X hQ => K_J17_stringSize hG p1 e1 hQ) ?_
  refine xw_ii (show xm_Imp g Γ 10 (xi_ii (fun x y => x + y) 11) from xs_iadd hΓ dJ4_append_2_10) ?_
  refine xw_ist (ls' := [some (.ref p0), some (.int p1), some (.int v1), some (.int (v1 + v2))]) (show xm_Imp g Γ 11 (xi_ist 3 12) from xs_istore_n hΓ dJ4_append_2_11 (Nat.le_of_ble_eq_true rfl)) rfl ?_
  refine xw_ald (show xm_Imp g Γ 12 (xi_ald 0 13) from xs_aload_n hΓ dJ4_append_2_12) rfl ?_
  refine xw_ild (show xm_Imp g Γ 13 (xi_ild 3 14) from xs_iload_n hΓ dJ4_append_2_13) rfl ?_
  obtain ⟨_, e0, e⟩ := e
  obtain ⟨m3, m4, ⟨em1, em2⟩, e⟩ := e
  refine xw_tvu1 (o := (some p0)) (show xm_Imp g Γ 14 (xi_vir g 14 M_J4_ensureCapacityInternal 9 1 17) from xs_invVp hG hΓ k_J4_ensureCapacityInternal rfl (ci := 14) rfl q426 q428 q464 rfl q427 dJ4_append_2_14) rfl rfl e0 em1 em2 (K_J4_ensureCapacityInternal hG p0 (v1 + v2) _ _ _ e) (fun h5 e => ?_)
  refine xw_ald (show xm_Imp g Γ 17 (xi_ald 0 18) from xs_aload_n hΓ dJ4_append_2_17) rfl ?_
  obtain ⟨_, e0, e⟩ := e
  obtain ⟨v7, e1, e⟩ := e
  refine xw_hv0 (o := (some p0)) (show xm_Imp g Γ 18 (xi_vir g 14 M_J4_isLatin1 1 0 21) from xs_invU hG hΓ (owner := "java/lang/AbstractStringBuilder") k_J4_isLatin1 rfl (ci := 14) rfl q461 q463 q462 q464 rfl ⟨by decide, by decide⟩ (by decide +kernel) dJ4_append_2_18) rfl rfl e0 (fun Q X hQ => K_J4_isLatin1 hG p0 _ e1 hQ) ?_
  refine xw_if (show xm_Imp g Γ 21 (xi_if (fun x => x = 0) 37 24) from xs_if_eq hΓ dJ4_append_2_21 (by decide)) (fun c => ?_) (fun c => ?_)
  · rw [if_pos c] at e
    refine xw_ild (show xm_Imp g Γ 37 (xi_ild 1 38) from xs_iload_n hΓ dJ4_append_2_37) rfl ?_
    refine xw_ild (show xm_Imp g Γ 38 (xi_ild 2 39) from xs_iload_n hΓ dJ4_append_2_38) rfl ?_
    refine xw_ild (show xm_Imp g Γ 39 (xi_ild 3 40) from xs_iload_n hΓ dJ4_append_2_39) rfl ?_
    refine xw_ald (show xm_Imp g Γ 40 (xi_ald 0 41) from xs_aload_n hΓ dJ4_append_2_40) rfl ?_
    obtain ⟨v8, e1, e⟩ := e
    refine xw_gr1 (o := (some p0)) (show xm_Imp g Γ 41 (xi_get 14 0 44) from xs_get hG hΓ (ci := 14) (kf := 0) rfl (Nat.le_of_ble_eq_true rfl) q328 dJ4_append_2_41) rfl e1 ?_
    exact e.elim
  · rw [if_neg c] at e
    refine xw_ild (show xm_Imp g Γ 24 (xi_ild 1 25) from xs_iload_n hΓ dJ4_append_2_24) rfl ?_
    refine xw_ild (show xm_Imp g Γ 25 (xi_ild 3 26) from xs_iload_n hΓ dJ4_append_2_25) rfl ?_
    refine xw_ald (show xm_Imp g Γ 26 (xi_ald 0 27) from xs_aload_n hΓ dJ4_append_2_26) rfl ?_
    obtain ⟨v9, e1, e⟩ := e
    refine xw_gr1 (o := (some p0)) (show xm_Imp g Γ 27 (xi_get 14 0 30) from xs_get hG hΓ (ci := 14) (kf := 0) rfl (Nat.le_of_ble_eq_true rfl) q328 dJ4_append_2_27) rfl e1 ?_
    obtain ⟨v10, e1, e⟩ := e
    refine xw_sv3 (show xm_Imp g Γ 30 (xi_inv g M_J17_getChars 1 3 33) from xs_invS hG hΓ k_J17_getChars rfl q607 q608 dJ4_append_2_30) rfl (fun Q X hQ => K_J17_getChars hG p1 (v1 + v2) v9 _ e1 hQ) ?_
    refine xw_pop (show xm_Imp g Γ 33 (xi_pop 34) from xs_pop hΓ dJ4_append_2_33) rfl ?_
    refine xw_goto (show xm_Imp g Γ 34 (xi_goto 48) from xs_goto hΓ dJ4_append_2_34 (by decide)) ?_
    refine xw_ald (show xm_Imp g Γ 48 (xi_ald 0 49) from xs_aload_n hΓ dJ4_append_2_48) rfl ?_
    refine xw_ild (show xm_Imp g Γ 49 (xi_ild 3 50) from xs_iload_n hΓ dJ4_append_2_49) rfl ?_
    obtain ⟨h11, e1, e⟩ := e
    refine xw_pt1 (o := (some p0)) (show xm_Imp g Γ 50 (xi_put 14 3 (.int) 53) from xs_put hG hΓ (ci := 14) (kf := 3) rfl (Nat.le_of_ble_eq_true rfl) rfl (by decide +kernel) q332 dJ4_append_2_50) rfl (xf_int _) e1 ?_
    refine xw_ald (show xm_Imp g Γ 53 (xi_ald 0 54) from xs_aload_n hΓ dJ4_append_2_53) rfl ?_
    exact xw_aret (show xm_Imp g Γ 54 (xi_aret _) from xs_areturn hΓ rfl (Or.inl ⟨_, rfl⟩) dJ4_append_2_54) ⟨_, rfl, e⟩
noncomputable def F_J5_append_2 (g : xm_G) (p0 : Nat) (p1 : Int32) (h : xm_H) (bc : Nat) (bs : Nat) (Q : Option Nat → xm_H → Prop) : Prop :=
 xt_b (xh_is 14 h p0) (fun _ =>
 xt_c bc bs (fun m1 m2 => F_J4_append_2 g p0 p1 h m1 m2 (fun v4 h3 =>
 Q (some p0) h3)))
set_option maxHeartbeats 4000000 in
theorem K_J5_append_2 {g : xm_G} (hG : xm_Gw g) (p0 : Nat) (p1 : Int32) (h : xm_H) (bc : Nat) (bs : Nat) {Q : Option Nat → xm_H → Prop} (e : F_J5_append_2 g p0 p1 h bc bs Q) : xm_Run g M_J5_append_2 11 [.ref p0, .int p1] h bc bs (fun v h' => ∃ r, v = some (va_rf r) ∧ Q r h') xm_no := by
  refine xm_Run.of pn_java_lang_StringBuilder (Nat.le_of_ble_eq_true rfl) (fun Γ hΓ => ?_)
  show xm_W g Γ 0 [some (.ref p0), some (.int p1)] [] h bc bs
  unfold F_J5_append_2 at e
  refine xw_ald (show xm_Imp g Γ 0 (xi_ald 0 1) from xs_aload_n hΓ dJ5_append_2_0) rfl ?_
  refine xw_ild (show xm_Imp g Γ 1 (xi_ild 1 2) from xs_iload_n hΓ dJ5_append_2_1) rfl ?_
  obtain ⟨_, e0, e⟩ := e
  obtain ⟨m1, m2, ⟨em1, em2⟩, e⟩ := e
  refine xw_tvr1 (o := (some p0)) (show xm_Imp g Γ 2 (xi_vir g 14 M_J4_append_2 10 1 5) from xs_invP hG hΓ k_J4_append_2 rfl (ci := 14) rfl q601 q3528 q341 q602 (by decide) dJ5_append_2_2) rfl rfl e0 em1 em2 (K_J4_append_2 hG p0 p1 _ _ _ e) (fun v4 h3 e => ?_)
  refine xw_pop (show xm_Imp g Γ 5 (xi_pop 6) from xs_pop hΓ dJ5_append_2_5) (xm_c1_rf v4) ?_
  refine xw_ald (show xm_Imp g Γ 6 (xi_ald 0 7) from xs_aload_n hΓ dJ5_append_2_6) rfl ?_
  exact xw_aret (show xm_Imp g Γ 7 (xi_aret _) from xs_areturn hΓ rfl (Or.inl ⟨_, rfl⟩) dJ5_append_2_7) ⟨_, rfl, e⟩
noncomputable def F_X1_nameOf (g : xm_G) (p0 : Int32) (h : xm_H) : Option (Option Nat) :=
 (if p0 = 0 then
 some (some (xm_sa g "StringTableau" 412)) else
 (if p0 = 1 then
 some (some (xm_sa g "StringTableau" 414)) else
 (if p0 = 2 then
 some (some (xm_sa g "StringTableau" 416)) else
 (if p0 = 3 then
 some (some (xm_sa g "StringTableau" 418)) else
 (if p0 = 4 then
 some (some (xm_sa g "StringTableau" 419)) else
 (if p0 = 5 then
 some (some (xm_sa g "StringTableau" 421)) else
 (if p0 = 6 then
 some (some (xm_sa g "StringTableau" 422)) else
 (if p0 = 7 then
 some (some (xm_sa g "StringTableau" 424)) else
 (if p0 = 8 then
 some (some (xm_sa g "StringTableau" 426)) else
 some (some (xm_sa g "StringTableau" 428)))))))))))
set_option maxHeartbeats 4000000 in
theorem K_X1_nameOf {g : xm_G} (hG : xm_Gw g) (p0 : Int32) (h : xm_H) {o : Option Nat} (e : F_X1_nameOf g p0 h = some o) {Q : xm_P} {X : xm_X} (hQ : Q (some (va_rf o)) h) : xm_Run g M_X1_nameOf 1 [.int p0] h 0 0 Q X := by
  refine xm_Run.of pn_StringTableau (Nat.le_of_ble_eq_true rfl) (fun Γ hΓ => ?_)
  obtain ⟨P0, hP0, hp⟩ : ∃ P : Option Nat → Prop, (∀ o, P o → Q (some (va_rf o)) h) ∧ P o := ⟨fun o => Q (some (va_rf o)) h, fun _ h => h, hQ⟩
  clear hQ
  show xm_W g Γ 0 [some (.int p0)] [] h 0 0
  unfold F_X1_nameOf at e
  refine xw_ild (show xm_Imp g Γ 0 (xi_ild 0 1) from xs_iload_n hΓ dX1_nameOf_0) rfl ?_
  by_cases c0 : p0 = 0
  · rw [if_pos c0] at e
    refine xw_tsi (show xm_Imp g Γ 1 (xi_tsw 0 8 [52, 58, 64, 70, 76, 82, 88, 94, 100] 106) from xs_tsw hΓ dX1_nameOf_1 (by decide) (by decide) (by decide)) (i := 0) rfl (by rw [c0]; decide) (by decide) ?_
    refine xw_psh (v := (.ref (xm_sa g "StringTableau" 412))) (show xm_Imp g Γ 52 (xi_psh (.ref (xm_sa g "StringTableau" 412)) 55) from xs_ldSw hG hΓ q1801 dX1_nameOf_52) ?_
    refine xw_goto (show xm_Imp g Γ 55 (xi_goto 109) from xs_goto hΓ dX1_nameOf_55 (by decide)) ?_
    have hq := hP0 _ (xl_fin e hp)
    exact xw_aret (show xm_Imp g Γ 109 (xi_aret _) from xs_areturn hΓ rfl (Or.inl ⟨_, rfl⟩) dX1_nameOf_109) hq
  rw [if_neg c0] at e
  by_cases c1 : p0 = 1
  · rw [if_pos c1] at e
    refine xw_tsi (show xm_Imp g Γ 1 (xi_tsw 0 8 [52, 58, 64, 70, 76, 82, 88, 94, 100] 106) from xs_tsw hΓ dX1_nameOf_1 (by decide) (by decide) (by decide)) (i := 1) rfl (by rw [c1]; decide) (by decide) ?_
    refine xw_psh (v := (.ref (xm_sa g "StringTableau" 414))) (show xm_Imp g Γ 58 (xi_psh (.ref (xm_sa g "StringTableau" 414)) 61) from xs_ldSw hG hΓ q1802 dX1_nameOf_58) ?_
    refine xw_goto (show xm_Imp g Γ 61 (xi_goto 109) from xs_goto hΓ dX1_nameOf_61 (by decide)) ?_
    have hq := hP0 _ (xl_fin e hp)
    exact xw_aret (show xm_Imp g Γ 109 (xi_aret _) from xs_areturn hΓ rfl (Or.inl ⟨_, rfl⟩) dX1_nameOf_109) hq
  rw [if_neg c1] at e
  by_cases c2 : p0 = 2
  · rw [if_pos c2] at e
    refine xw_tsi (show xm_Imp g Γ 1 (xi_tsw 0 8 [52, 58, 64, 70, 76, 82, 88, 94, 100] 106) from xs_tsw hΓ dX1_nameOf_1 (by decide) (by decide) (by decide)) (i := 2) rfl (by rw [c2]; decide) (by decide) ?_
    refine xw_psh (v := (.ref (xm_sa g "StringTableau" 416))) (show xm_Imp g Γ 64 (xi_psh (.ref (xm_sa g "StringTableau" 416)) 67) from xs_ldSw hG hΓ q1803 dX1_nameOf_64) ?_
    refine xw_goto (show xm_Imp g Γ 67 (xi_goto 109) from xs_goto hΓ dX1_nameOf_67 (by decide)) ?_
    have hq := hP0 _ (xl_fin e hp)
    exact xw_aret (show xm_Imp g Γ 109 (xi_aret _) from xs_areturn hΓ rfl (Or.inl ⟨_, rfl⟩) dX1_nameOf_109) hq
  rw [if_neg c2] at e
  by_cases c3 : p0 = 3
  · rw [if_pos c3] at e
    refine xw_tsi (show xm_Imp g Γ 1 (xi_tsw 0 8 [52, 58, 64, 70, 76, 82, 88, 94, 100] 106) from xs_tsw hΓ dX1_nameOf_1 (by decide) (by decide) (by decide)) (i := 3) rfl (by rw [c3]; decide) (by decide) ?_
    refine xw_psh (v := (.ref (xm_sa g "StringTableau" 418))) (show xm_Imp g Γ 70 (xi_psh (.ref (xm_sa g "StringTableau" 418)) 73) from xs_ldSw hG hΓ q1804 dX1_nameOf_70) ?_
    refine xw_goto (show xm_Imp g Γ 73 (xi_goto 109) from xs_goto hΓ dX1_nameOf_73 (by decide)) ?_
    have hq := hP0 _ (xl_fin e hp)
    exact xw_aret (show xm_Imp g Γ 109 (xi_aret _) from xs_areturn hΓ rfl (Or.inl ⟨_, rfl⟩) dX1_nameOf_109) hq
  rw [if_neg c3] at e
  by_cases c4 : p0 = 4
  · rw [if_pos c4] at e
    refine xw_tsi (show xm_Imp g Γ 1 (xi_tsw 0 8 [52, 58, 64, 70, 76, 82, 88, 94, 100] 106) from xs_tsw hΓ dX1_nameOf_1 (by decide) (by decide) (by decide)) (i := 4) rfl (by rw [c4]; decide) (by decide) ?_
    refine xw_psh (v := (.ref (xm_sa g "StringTableau" 419))) (show xm_Imp g Γ 76 (xi_psh (.ref (xm_sa g "StringTableau" 419)) 79) from xs_ldSw hG hΓ q1805 dX1_nameOf_76) ?_
    refine xw_goto (show xm_Imp g Γ 79 (xi_goto 109) from xs_goto hΓ dX1_nameOf_79 (by decide)) ?_
    have hq := hP0 _ (xl_fin e hp)
    exact xw_aret (show xm_Imp g Γ 109 (xi_aret _) from xs_areturn hΓ rfl (Or.inl ⟨_, rfl⟩) dX1_nameOf_109) hq
  rw [if_neg c4] at e
  by_cases c5 : p0 = 5
  · rw [if_pos c5] at e
    refine xw_tsi (show xm_Imp g Γ 1 (xi_tsw 0 8 [52, 58, 64, 70, 76, 82, 88, 94, 100] 106) from xs_tsw hΓ dX1_nameOf_1 (by decide) (by decide) (by decide)) (i := 5) rfl (by rw [c5]; decide) (by decide) ?_
    refine xw_psh (v := (.ref (xm_sa g "StringTableau" 421))) (show xm_Imp g Γ 82 (xi_psh (.ref (xm_sa g "StringTableau" 421)) 85) from xs_ldSw hG hΓ q1806 dX1_nameOf_82) ?_
    refine xw_goto (show xm_Imp g Γ 85 (xi_goto 109) from xs_goto hΓ dX1_nameOf_85 (by decide)) ?_
    have hq := hP0 _ (xl_fin e hp)
    exact xw_aret (show xm_Imp g Γ 109 (xi_aret _) from xs_areturn hΓ rfl (Or.inl ⟨_, rfl⟩) dX1_nameOf_109) hq
  rw [if_neg c5] at e
  by_cases c6 : p0 = 6
  · rw [if_pos c6] at e
    refine xw_tsi (show xm_Imp g Γ 1 (xi_tsw 0 8 [52, 58, 64, 70, 76, 82, 88, 94, 100] 106) from xs_tsw hΓ dX1_nameOf_1 (by decide) (by decide) (by decide)) (i := 6) rfl (by rw [c6]; decide) (by decide) ?_
    refine xw_psh (v := (.ref (xm_sa g "StringTableau" 422))) (show xm_Imp g Γ 88 (xi_psh (.ref (xm_sa g "StringTableau" 422)) 91) from xs_ldSw hG hΓ q1807 dX1_nameOf_88) ?_
    refine xw_goto (show xm_Imp g Γ 91 (xi_goto 109) from xs_goto hΓ dX1_nameOf_91 (by decide)) ?_
    have hq := hP0 _ (xl_fin e hp)
    exact xw_aret (show xm_Imp g Γ 109 (xi_aret _) from xs_areturn hΓ rfl (Or.inl ⟨_, rfl⟩) dX1_nameOf_109) hq
  rw [if_neg c6] at e
  by_cases c7 : p0 = 7
  · rw [if_pos c7] at e
    refine xw_tsi (show xm_Imp g Γ 1 (xi_tsw 0 8 [52, 58, 64, 70, 76, 82, 88, 94, 100] 106) from xs_tsw hΓ dX1_nameOf_1 (by decide) (by decide) (by decide)) (i := 7) rfl (by rw [c7]; decide) (by decide) ?_
    refine xw_psh (v := (.ref (xm_sa g "StringTableau" 424))) (show xm_Imp g Γ 94 (xi_psh (.ref (xm_sa g "StringTableau" 424)) 97) from xs_ldSw hG hΓ q1808 dX1_nameOf_94) ?_
    refine xw_goto (show xm_Imp g Γ 97 (xi_goto 109) from xs_goto hΓ dX1_nameOf_97 (by decide)) ?_
    have hq := hP0 _ (xl_fin e hp)
    exact xw_aret (show xm_Imp g Γ 109 (xi_aret _) from xs_areturn hΓ rfl (Or.inl ⟨_, rfl⟩) dX1_nameOf_109) hq
  rw [if_neg c7] at e
  by_cases c8 : p0 = 8
  · rw [if_pos c8] at e
    refine xw_tsi (show xm_Imp g Γ 1 (xi_tsw 0 8 [52, 58, 64, 70, 76, 82, 88, 94, 100] 106) from xs_tsw hΓ dX1_nameOf_1 (by decide) (by decide) (by decide)) (i := 8) rfl (by rw [c8]; decide) (by decide) ?_
    refine xw_psh (v := (.ref (xm_sa g "StringTableau" 426))) (show xm_Imp g Γ 100 (xi_psh (.ref (xm_sa g "StringTableau" 426)) 103) from xs_ldSw hG hΓ q1809 dX1_nameOf_100) ?_
    refine xw_goto (show xm_Imp g Γ 103 (xi_goto 109) from xs_goto hΓ dX1_nameOf_103 (by decide)) ?_
    have hq := hP0 _ (xl_fin e hp)
    exact xw_aret (show xm_Imp g Γ 109 (xi_aret _) from xs_areturn hΓ rfl (Or.inl ⟨_, rfl⟩) dX1_nameOf_109) hq
  rw [if_neg c8] at e
  refine xw_tsd (show xm_Imp g Γ 1 (xi_tsw 0 8 [52, 58, 64, 70, 76, 82, 88, 94, 100] 106) from xs_tsw hΓ dX1_nameOf_1 (by decide) (by decide) (by decide)) (xm_tsd p0 [(0 : Int32), (1 : Int32), (2 : Int32), (3 : Int32), (4 : Int32), (5 : Int32), (6 : Int32), (7 : Int32), (8 : Int32)] (by decide) (And.intro c0 (And.intro c1 (And.intro c2 (And.intro c3 (And.intro c4 (And.intro c5 (And.intro c6 (And.intro c7 (And.intro c8 (trivial))))))))))) (by decide) ?_
  refine xw_psh (v := (.ref (xm_sa g "StringTableau" 428))) (show xm_Imp g Γ 106 (xi_psh (.ref (xm_sa g "StringTableau" 428)) 109) from xs_ldSw hG hΓ q1810 dX1_nameOf_106) ?_
  have hq := hP0 _ (xl_fin e hp)
  exact xw_aret (show xm_Imp g Γ 109 (xi_aret _) from xs_areturn hΓ rfl (Or.inl ⟨_, rfl⟩) dX1_nameOf_109) hq
noncomputable def D_X1_writeOperation_73 (g : xm_G) (l0 : Nat) (l1 : Option Nat) (Q : xm_H → Prop) (k73 : Int32 × xm_H × Nat × Nat → Prop) (s : Int32 × xm_H × Nat × Nat) : Prop :=
 xt_b (xh_is 0 s.2.1 l0) (fun _ =>
 xt_b (F_X1_qubits g l0 s.2.1) (fun v19 =>
 (if v19 ≤ s.1 then
 Q s.2.1 else
 xt_b (xh_fr [(0, 8)] s.2.1 l0) (fun v20 =>
 xt_b l1 (fun a21 =>
 xt_b (xh_ci s.2.1 a21) (fun c22 =>
 (if c22 = 7 then
 xt_b (F_X9_property g a21 4 s.2.1) (fun v23 =>
 xt_b (xh_ci s.2.1 a21) (fun c24 =>
 (if c24 = 7 then
 xt_b (F_X9_property g a21 5 s.2.1) (fun v25 =>
 xt_b (xh_is 15 s.2.1 (xm_sa g "StringTableau" 444)) (fun _ =>
 xt_b (F_J6_charAt g (xm_sa g "StringTableau" 444) (F_X1_letterOf v23 v25 s.1) s.2.1) (fun v26 =>
 xt_b v20 (fun a27 =>
 xt_b (xh_is 14 s.2.1 a27) (fun _ =>
 xt_c s.2.2.1 s.2.2.2 (fun m28 m29 => F_J5_append g a27 v26 s.2.1 m28 m29 (fun v31 h30 =>
 k73 ((s.1 + 1), h30, (s.2.2.1 - m28), (s.2.2.2 - m29))))))))) else
 (if c24 = 8 then
 xt_b (F_X10_property g a21 5 s.2.1) (fun v32 =>
 xt_b (xh_is 15 s.2.1 (xm_sa g "StringTableau" 444)) (fun _ =>
 xt_b (F_J6_charAt g (xm_sa g "StringTableau" 444) (F_X1_letterOf v23 v32 s.1) s.2.1) (fun v33 =>
 xt_b v20 (fun a34 =>
 xt_b (xh_is 14 s.2.1 a34) (fun _ =>
 xt_c s.2.2.1 s.2.2.2 (fun m35 m36 => F_J5_append g a34 v33 s.2.1 m35 m36 (fun v38 h37 =>
 k73 ((s.1 + 1), h37, (s.2.2.1 - m35), (s.2.2.2 - m36))))))))) else
 False)))) else
 (if c22 = 8 then
 xt_b (F_X10_property g a21 4 s.2.1) (fun v39 =>
 xt_b (xh_ci s.2.1 a21) (fun c40 =>
 (if c40 = 7 then
 xt_b (F_X9_property g a21 5 s.2.1) (fun v41 =>
 xt_b (xh_is 15 s.2.1 (xm_sa g "StringTableau" 444)) (fun _ =>
 xt_b (F_J6_charAt g (xm_sa g "StringTableau" 444) (F_X1_letterOf v39 v41 s.1) s.2.1) (fun v42 =>
 xt_b v20 (fun a43 =>
 xt_b (xh_is 14 s.2.1 a43) (fun _ =>
 xt_c s.2.2.1 s.2.2.2 (fun m44 m45 => F_J5_append g a43 v42 s.2.1 m44 m45 (fun v47 h46 =>
 k73 ((s.1 + 1), h46, (s.2.2.1 - m44), (s.2.2.2 - m45))))))))) else
 (if c40 = 8 then
 xt_b (F_X10_property g a21 5 s.2.1) (fun v48 =>
 xt_b (xh_is 15 s.2.1 (xm_sa g "StringTableau" 444)) (fun _ =>
 xt_b (F_J6_charAt g (xm_sa g "StringTableau" 444) (F_X1_letterOf v39 v48 s.1) s.2.1) (fun v49 =>
 xt_b v20 (fun a50 =>
 xt_b (xh_is 14 s.2.1 a50) (fun _ =>
 xt_c s.2.2.1 s.2.2.2 (fun m51 m52 => F_J5_append g a50 v49 s.2.1 m51 m52 (fun v54 h53 =>
 k73 ((s.1 + 1), h53, (s.2.2.1 - m51), (s.2.2.2 - m52))))))))) else
 False)))) else
 False))))))))
noncomputable def L_X1_writeOperation_73 (g : xm_G) (l0 : Nat) (l1 : Option Nat) (Q : xm_H → Prop) (s : Int32 × xm_H × Nat × Nat) : Prop := xt_loop (D_X1_writeOperation_73 g l0 l1 Q) s
noncomputable def B_X1_writeOperation_42 (g : xm_G) (l0 : Nat) (l1 : Option Nat) (h : xm_H) (bc : Nat) (bs : Nat) (Q : xm_H → Prop) : Prop :=
 xt_b (xh_fr [(0, 8)] h l0) (fun v4 =>
 xt_b l1 (fun a5 =>
 xt_b (xh_fi [(7, 0), (8, 0)] h a5) (fun v6 =>
 xt_b (F_X1_nameOf g v6 h) (fun v7 =>
 xt_b v4 (fun a8 =>
 xt_b (xh_is 14 h a8) (fun _ =>
 xt_c bc bs (fun m9 m10 => F_J5_append_3 g a8 v7 h m9 m10 (fun v12 h11 =>
 xt_b v12 (fun a13 =>
 xt_b (xh_is 14 h11 a13) (fun _ =>
 xt_c (bc - m9) (bs - m10) (fun m14 m15 => F_J5_append g a13 32 h11 m14 m15 (fun v17 h16 =>
 xt_b (xh_fi [(7, 0), (8, 0)] h16 a5) (fun v18 =>
 (if v18 = (9 : Int32) then
 L_X1_writeOperation_73 g l0 l1 Q (0, h16, ((bc - m9) - m14), ((bs - m10) - m15)) else
 xt_b (xh_fr [(0, 8)] h16 l0) (fun v55 =>
 xt_b (xh_ci h16 a5) (fun c56 =>
 (if c56 = 7 then
 xt_b (F_X9_property g a5 1 h16) (fun v57 =>
 xt_b v55 (fun a58 =>
 xt_b (xh_is 14 h16 a58) (fun _ =>
 xt_c ((bc - m9) - m14) ((bs - m10) - m15) (fun m59 m60 => F_J5_append_2 g a58 v57 h16 m59 m60 (fun v62 h61 =>
 xt_b (xh_ci h61 a5) (fun c63 =>
 (if c63 = 7 then
 xt_b (F_X9_property g a5 2 h61) (fun v64 =>
 (if v64 = ((-1) : Int32) then
 Q h61 else
 xt_b (xh_fr [(0, 8)] h61 l0) (fun v65 =>
 xt_b v65 (fun a66 =>
 xt_b (xh_is 14 h61 a66) (fun _ =>
 xt_c (((bc - m9) - m14) - m59) (((bs - m10) - m15) - m60) (fun m67 m68 => F_J5_append g a66 32 h61 m67 m68 (fun v70 h69 =>
 xt_b (xh_ci h69 a5) (fun c71 =>
 (if c71 = 7 then
 xt_b (F_X9_property g a5 2 h69) (fun v72 =>
 xt_b v70 (fun a73 =>
 xt_b (xh_is 14 h69 a73) (fun _ =>
 xt_c ((((bc - m9) - m14) - m59) - m67) ((((bs - m10) - m15) - m60) - m68) (fun m74 m75 => F_J5_append_2 g a73 v72 h69 m74 m75 (fun v77 h76 =>
 Q h76))))) else
 (if c71 = 8 then
 xt_b (F_X10_property g a5 2 h69) (fun v78 =>
 xt_b v70 (fun a79 =>
 xt_b (xh_is 14 h69 a79) (fun _ =>
 xt_c ((((bc - m9) - m14) - m59) - m67) ((((bs - m10) - m15) - m60) - m68) (fun m80 m81 => F_J5_append_2 g a79 v78 h69 m80 m81 (fun v83 h82 =>
 Q h82))))) else
 False)))))))))) else
 (if c63 = 8 then
 xt_b (F_X10_property g a5 2 h61) (fun v84 =>
 (if v84 = ((-1) : Int32) then
 Q h61 else
 xt_b (xh_fr [(0, 8)] h61 l0) (fun v85 =>
 xt_b v85 (fun a86 =>
 xt_b (xh_is 14 h61 a86) (fun _ =>
 xt_c (((bc - m9) - m14) - m59) (((bs - m10) - m15) - m60) (fun m87 m88 => F_J5_append g a86 32 h61 m87 m88 (fun v90 h89 =>
 xt_b (xh_ci h89 a5) (fun c91 =>
 (if c91 = 7 then
 xt_b (F_X9_property g a5 2 h89) (fun v92 =>
 xt_b v90 (fun a93 =>
 xt_b (xh_is 14 h89 a93) (fun _ =>
 xt_c ((((bc - m9) - m14) - m59) - m87) ((((bs - m10) - m15) - m60) - m88) (fun m94 m95 => F_J5_append_2 g a93 v92 h89 m94 m95 (fun v97 h96 =>
 Q h96))))) else
 (if c91 = 8 then
 xt_b (F_X10_property g a5 2 h89) (fun v98 =>
 xt_b v90 (fun a99 =>
 xt_b (xh_is 14 h89 a99) (fun _ =>
 xt_c ((((bc - m9) - m14) - m59) - m87) ((((bs - m10) - m15) - m60) - m88) (fun m100 m101 => F_J5_append_2 g a99 v98 h89 m100 m101 (fun v103 h102 =>
 Q h102))))) else
 False)))))))))) else
 False)))))))) else
 (if c56 = 8 then
 xt_b (F_X10_property g a5 1 h16) (fun v104 =>
 xt_b v55 (fun a105 =>
 xt_b (xh_is 14 h16 a105) (fun _ =>
 xt_c ((bc - m9) - m14) ((bs - m10) - m15) (fun m106 m107 => F_J5_append_2 g a105 v104 h16 m106 m107 (fun v109 h108 =>
 xt_b (xh_ci h108 a5) (fun c110 =>
 (if c110 = 7 then
 xt_b (F_X9_property g a5 2 h108) (fun v111 =>
 (if v111 = ((-1) : Int32) then
 Q h108 else
 xt_b (xh_fr [(0, 8)] h108 l0) (fun v112 =>
 xt_b v112 (fun a113 =>
 xt_b (xh_is 14 h108 a113) (fun _ =>
 xt_c (((bc - m9) - m14) - m106) (((bs - m10) - m15) - m107) (fun m114 m115 => F_J5_append g a113 32 h108 m114 m115 (fun v117 h116 =>
 xt_b (xh_ci h116 a5) (fun c118 =>
 (if c118 = 7 then
 xt_b (F_X9_property g a5 2 h116) (fun v119 =>
 xt_b v117 (fun a120 =>
 xt_b (xh_is 14 h116 a120) (fun _ =>
 xt_c ((((bc - m9) - m14) - m106) - m114) ((((bs - m10) - m15) - m107) - m115) (fun m121 m122 => F_J5_append_2 g a120 v119 h116 m121 m122 (fun v124 h123 =>
 Q h123))))) else
 (if c118 = 8 then
 xt_b (F_X10_property g a5 2 h116) (fun v125 =>
 xt_b v117 (fun a126 =>
 xt_b (xh_is 14 h116 a126) (fun _ =>
 xt_c ((((bc - m9) - m14) - m106) - m114) ((((bs - m10) - m15) - m107) - m115) (fun m127 m128 => F_J5_append_2 g a126 v125 h116 m127 m128 (fun v130 h129 =>
 Q h129))))) else
 False)))))))))) else
 (if c110 = 8 then
 xt_b (F_X10_property g a5 2 h108) (fun v131 =>
 (if v131 = ((-1) : Int32) then
 Q h108 else
 xt_b (xh_fr [(0, 8)] h108 l0) (fun v132 =>
 xt_b v132 (fun a133 =>
 xt_b (xh_is 14 h108 a133) (fun _ =>
 xt_c (((bc - m9) - m14) - m106) (((bs - m10) - m15) - m107) (fun m134 m135 => F_J5_append g a133 32 h108 m134 m135 (fun v137 h136 =>
 xt_b (xh_ci h136 a5) (fun c138 =>
 (if c138 = 7 then
 xt_b (F_X9_property g a5 2 h136) (fun v139 =>
 xt_b v137 (fun a140 =>
 xt_b (xh_is 14 h136 a140) (fun _ =>
 xt_c ((((bc - m9) - m14) - m106) - m134) ((((bs - m10) - m15) - m107) - m135) (fun m141 m142 => F_J5_append_2 g a140 v139 h136 m141 m142 (fun v144 h143 =>
 Q h143))))) else
 (if c138 = 8 then
 xt_b (F_X10_property g a5 2 h136) (fun v145 =>
 xt_b v137 (fun a146 =>
 xt_b (xh_is 14 h136 a146) (fun _ =>
 xt_c ((((bc - m9) - m14) - m106) - m134) ((((bs - m10) - m15) - m107) - m135) (fun m147 m148 => F_J5_append_2 g a146 v145 h136 m147 m148 (fun v150 h149 =>
 Q h149))))) else
 False)))))))))) else
 False)))))))) else
 False))))))))))))))))))
noncomputable def F_X1_writeOperation (g : xm_G) (p0 : Nat) (p1 : Option Nat) (h : xm_H) (bc : Nat) (bs : Nat) (Q : xm_H → Prop) : Prop :=
 xt_b p1 (fun a1 =>
 xt_b (xh_ci h a1) (fun c2 =>
 (if c2 = 7 then
 xt_b (F_X9_property g a1 3 h) (fun v3 =>
 (if v3 = ((-1) : Int32) then
 B_X1_writeOperation_42 g p0 p1 h bc bs Q else
 xt_b (xh_fi [(7, 0), (8, 0)] h a1) (fun v151 =>
 (if v151 = (9 : Int32) then
 B_X1_writeOperation_42 g p0 p1 h bc bs Q else
 xt_b (xh_fr [(0, 8)] h p0) (fun v152 =>
 xt_b v152 (fun a153 =>
 xt_b (xh_is 14 h a153) (fun _ =>
 xt_c bc bs (fun m154 m155 => F_J5_append_3 g a153 (some (xm_sa g "StringTableau" 429)) h m154 m155 (fun v157 h156 =>
 xt_b (xh_ci h156 a1) (fun c158 =>
 (if c158 = 7 then
 xt_b (F_X9_property g a1 3 h156) (fun v159 =>
 xt_b v157 (fun a160 =>
 xt_b (xh_is 14 h156 a160) (fun _ =>
 xt_c (bc - m154) (bs - m155) (fun m161 m162 => F_J5_append_2 g a160 v159 h156 m161 m162 (fun v164 h163 =>
 xt_b v164 (fun a165 =>
 xt_b (xh_is 14 h163 a165) (fun _ =>
 xt_c ((bc - m154) - m161) ((bs - m155) - m162) (fun m166 m167 => F_J5_append g a165 32 h163 m166 m167 (fun v169 h168 =>
 B_X1_writeOperation_42 g p0 p1 h168 (((bc - m154) - m161) - m166) (((bs - m155) - m162) - m167) Q))))))))) else
 (if c158 = 8 then
 xt_b (F_X10_property g a1 3 h156) (fun v170 =>
 xt_b v157 (fun a171 =>
 xt_b (xh_is 14 h156 a171) (fun _ =>
 xt_c (bc - m154) (bs - m155) (fun m172 m173 => F_J5_append_2 g a171 v170 h156 m172 m173 (fun v175 h174 =>
 xt_b v175 (fun a176 =>
 xt_b (xh_is 14 h174 a176) (fun _ =>
 xt_c ((bc - m154) - m172) ((bs - m155) - m173) (fun m177 m178 => F_J5_append g a176 32 h174 m177 m178 (fun v180 h179 =>
 B_X1_writeOperation_42 g p0 p1 h179 (((bc - m154) - m172) - m177) (((bs - m155) - m173) - m178) Q))))))))) else
 False)))))))))))) else
 (if c2 = 8 then
 xt_b (F_X10_property g a1 3 h) (fun v181 =>
 (if v181 = ((-1) : Int32) then
 B_X1_writeOperation_42 g p0 p1 h bc bs Q else
 xt_b (xh_fi [(7, 0), (8, 0)] h a1) (fun v182 =>
 (if v182 = (9 : Int32) then
 B_X1_writeOperation_42 g p0 p1 h bc bs Q else
 xt_b (xh_fr [(0, 8)] h p0) (fun v183 =>
 xt_b v183 (fun a184 =>
 xt_b (xh_is 14 h a184) (fun _ =>
 xt_c bc bs (fun m185 m186 => F_J5_append_3 g a184 (some (xm_sa g "StringTableau" 429)) h m185 m186 (fun v188 h187 =>
 xt_b (xh_ci h187 a1) (fun c189 =>
 (if c189 = 7 then
 xt_b (F_X9_property g a1 3 h187) (fun v190 =>
 xt_b v188 (fun a191 =>
 xt_b (xh_is 14 h187 a191) (fun _ =>
 xt_c (bc - m185) (bs - m186) (fun m192 m193 => F_J5_append_2 g a191 v190 h187 m192 m193 (fun v195 h194 =>
 xt_b v195 (fun a196 =>
 xt_b (xh_is 14 h194 a196) (fun _ =>
 xt_c ((bc - m185) - m192) ((bs - m186) - m193) (fun m197 m198 => F_J5_append g a196 32 h194 m197 m198 (fun v200 h199 =>
 B_X1_writeOperation_42 g p0 p1 h199 (((bc - m185) - m192) - m197) (((bs - m186) - m193) - m198) Q))))))))) else
 (if c189 = 8 then
 xt_b (F_X10_property g a1 3 h187) (fun v201 =>
 xt_b v188 (fun a202 =>
 xt_b (xh_is 14 h187 a202) (fun _ =>
 xt_c (bc - m185) (bs - m186) (fun m203 m204 => F_J5_append_2 g a202 v201 h187 m203 m204 (fun v206 h205 =>
 xt_b v206 (fun a207 =>
 xt_b (xh_is 14 h205 a207) (fun _ =>
 xt_c ((bc - m185) - m203) ((bs - m186) - m204) (fun m208 m209 => F_J5_append g a207 32 h205 m208 m209 (fun v211 h210 =>
 B_X1_writeOperation_42 g p0 p1 h210 (((bc - m185) - m203) - m208) (((bs - m186) - m204) - m209) Q))))))))) else
 False)))))))))))) else
 False))))
set_option maxHeartbeats 4000000 in
theorem K_X1_writeOperation {g : xm_G} (hG : xm_Gw g) (p0 : Nat) (p1 : Option Nat) (h : xm_H) (bc : Nat) (bs : Nat) {Q : xm_H → Prop} (e : F_X1_writeOperation g p0 p1 h bc bs Q) : xm_Run g M_X1_writeOperation 13 [.ref p0, va_rf p1] h bc bs (fun v h' => v = none ∧ Q h') xm_no := by
  refine xm_Run.of2 (ls := [some (.ref p0), some (va_rf p1), none]) pn_StringTableau (by cases p1 <;> exact Nat.le_of_ble_eq_true rfl) (by cases p1 <;> rfl) (fun Γ hΓ => ?_)
  show xm_W g Γ 0 [some (.ref p0), some (va_rf p1), none] [] h bc bs
  have hL_73 : ∀ (l0 : Nat) (l1 : Option Nat) (s : Int32 × xm_H × Nat × Nat), L_X1_writeOperation_73 g l0 l1 Q s → xm_W g Γ 73 [some (.ref l0), some (va_rf l1), some (.int s.1)] [] s.2.1 s.2.2.1 s.2.2.2 := by
    intro l0 l1
    refine xt_rule (WS := fun s : Int32 × xm_H × Nat × Nat => xm_W g Γ 73 [some (.ref l0), some (va_rf l1), some (.int s.1)] [] s.2.1 s.2.2.1 s.2.2.2) ?_
    intro k73 hk73 s e
    unfold D_X1_writeOperation_73 at e
    refine xw_ild (show xm_Imp g Γ 73 (xi_ild 2 74) from xs_iload_n hΓ dX1_writeOperation_73) rfl ?_
    refine xw_ald (show xm_Imp g Γ 74 (xi_ald 0 75) from xs_aload_n hΓ dX1_writeOperation_74) rfl ?_
    obtain ⟨_, e0, e⟩ := e
    obtain ⟨v19, e1, e⟩ := e
    refine xw_hv0 (o := (some l0)) (show xm_Imp g Γ 75 (xi_vir g 0 M_X1_qubits 1 0 78) from xs_invV hG hΓ k_X1_qubits rfl (ci := 0) rfl q1139 q1141 qs20 dX1_writeOperation_75) rfl rfl e0 (fun Q X hQ => K_X1_qubits hG l0 _ e1 hQ) ?_
    refine xw_ic (show xm_Imp g Γ 78 (xi_ic (fun x y => y ≤ x) 115 81) from xs_icmp_ge hΓ dX1_writeOperation_78 (by decide)) (fun c => ?_) (fun c => ?_)
    · rw [if_pos c] at e
      exact xw_vret (show xm_Imp g Γ 115 (xi_vret _) from xs_return hΓ rfl dX1_writeOperation_115) ⟨rfl, e⟩
    · rw [if_neg c] at e
      refine xw_ald (show xm_Imp g Γ 81 (xi_ald 0 82) from xs_aload_n hΓ dX1_writeOperation_81) rfl ?_
      obtain ⟨v20, e1, e⟩ := e
      refine xw_gr1 (o := (some l0)) (show xm_Imp g Γ 82 (xi_get 0 8 85) from xs_get hG hΓ (ci := 0) (kf := 8) rfl (Nat.le_of_ble_eq_true rfl) q355 dX1_writeOperation_82) rfl e1 ?_
      refine xw_psh (v := (.ref (xm_sa g "StringTableau" 444))) (show xm_Imp g Γ 85 (xi_psh (.ref (xm_sa g "StringTableau" 444)) 88) from xs_ldSw hG hΓ q1811 dX1_writeOperation_85) ?_
      refine xw_aldo (x := l1) (show xm_Imp g Γ 88 (xi_ald 1 89) from xs_aload_n hΓ dX1_writeOperation_88) rfl ?_
      refine xw_psh (v := (.int (4))) (show xm_Imp g Γ 89 (xi_psh (.int (4)) 90) from xs_iconst hΓ dX1_writeOperation_89 (by decide)) ?_
      obtain ⟨a21, ha21, e⟩ := e
      obtain ⟨c22, e0, e⟩ := e
      by_cases cc0 : c22 = 7
      · rw [if_pos cc0] at e
        obtain ⟨v23, e1, e⟩ := e
        refine xw_hv1 (o := l1) (xm_or1 (show xm_Imp g Γ 90 (xi_or (xi_vir g 7 M_X9_property 2 1 93) (xi_vir g 8 M_X10_property 1 1 93)) from xs_or (xs_invA hG hΓ (owner := "StringTableau$Operation") k_X9_property rfl (ci := 7) rfl q1781 q1783 q1788 q1787 q1782 ⟨by decide, by decide⟩ (by decide +kernel) dX1_writeOperation_90) (xs_invA hG hΓ (owner := "StringTableau$Operation") k_X10_property rfl (ci := 8) rfl q1781 q1783 q1785 q1784 q1782 ⟨by decide, by decide⟩ (by decide +kernel) dX1_writeOperation_90))) (by simp [xm_stk, xv_cat, xc_int, xc_long, xc_float, xc_double, xc_ref]) ha21 (xh_is_of e0 cc0) (fun Q X hQ => K_X9_property hG a21 4 _ e1 hQ) ?_
        refine xw_aldo (x := l1) (show xm_Imp g Γ 93 (xi_ald 1 94) from xs_aload_n hΓ dX1_writeOperation_93) rfl ?_
        refine xw_psh (v := (.int (5))) (show xm_Imp g Γ 94 (xi_psh (.int (5)) 95) from xs_iconst hΓ dX1_writeOperation_94 (by decide)) ?_
        obtain ⟨c24, e0, e⟩ := e
        by_cases cc0 : c24 = 7
        · rw [if_pos cc0] at e
          obtain ⟨v25, e1, e⟩ := e
          refine xw_hv1 (o := l1) (xm_or1 (show xm_Imp g Γ 95 (xi_or (xi_vir g 7 M_X9_property 2 1 98) (xi_vir g 8 M_X10_property 1 1 98)) from xs_or (xs_invA hG hΓ (owner := "StringTableau$Operation") k_X9_property rfl (ci := 7) rfl q1781 q1783 q1788 q1787 q1782 ⟨by decide, by decide⟩ (by decide +kernel) dX1_writeOperation_95) (xs_invA hG hΓ (owner := "StringTableau$Operation") k_X10_property rfl (ci := 8) rfl q1781 q1783 q1785 q1784 q1782 ⟨by decide, by decide⟩ (by decide +kernel) dX1_writeOperation_95))) (by simp [xm_stk, xv_cat, xc_int, xc_long, xc_float, xc_double, xc_ref]) ha21 (xh_is_of e0 cc0) (fun Q X hQ => K_X9_property hG a21 5 _ e1 hQ) ?_
          refine xw_ild (show xm_Imp g Γ 98 (xi_ild 2 99) from xs_iload_n hΓ dX1_writeOperation_98) rfl ?_
          refine xw_sv3 (show xm_Imp g Γ 99 (xi_inv g M_X1_letterOf 2 3 102) from xs_invS hG hΓ k_X1_letterOf rfl q1237 q1238 dX1_writeOperation_99) (by simp [xm_stk, xv_cat, xc_int, xc_long, xc_float, xc_double, xc_ref]) (fun Q X hQ => K_X1_letterOf hG v23 v25 s.1 rfl hQ) ?_
          obtain ⟨_, e0, e⟩ := e
          obtain ⟨v26, e1, e⟩ := e
          refine xw_hv1 (o := (some (xm_sa g "StringTableau" 444))) (show xm_Imp g Γ 102 (xi_vir g 15 M_J6_charAt 11 1 105) from xs_invV hG hΓ k_J6_charAt rfl (ci := 15) rfl q1812 q928 q929 dX1_writeOperation_102) (by simp [xm_stk, xv_cat, xc_int, xc_long, xc_float, xc_double, xc_ref]) rfl e0 (fun Q X hQ => K_J6_charAt hG (xm_sa g "StringTableau" 444) (F_X1_letterOf v23 v25 s.1) _ e1 hQ) ?_
          obtain ⟨a27, ha27, e⟩ := e
          obtain ⟨_, e0, e⟩ := e
          obtain ⟨m28, m29, ⟨em1, em2⟩, e⟩ := e
          refine xw_tvr1 (o := v20) (show xm_Imp g Γ 105 (xi_vir g 14 M_J5_append 11 1 108) from xs_invV hG hΓ k_J5_append rfl (ci := 14) rfl q1797 q420 q421 dX1_writeOperation_105) (by simp [xm_stk, xv_cat, xc_int, xc_long, xc_float, xc_double, xc_ref]) ha27 e0 em1 em2 (K_J5_append hG a27 v26 _ _ _ e) (fun v31 h30 e => ?_)
          refine xw_pop (show xm_Imp g Γ 108 (xi_pop 109) from xs_pop hΓ dX1_writeOperation_108) (xm_c1_rf v31) ?_
          refine xw_inc (v := (1)) (ls' := [some (.ref l0), some (va_rf l1), some (.int (s.1 + 1))]) (show xm_Imp g Γ 109 (xi_inc 2 (1) 112) from xs_iinc hΓ dX1_writeOperation_109 (by decide) (Nat.le_of_ble_eq_true rfl)) rfl ((xm_s1_o (o := l1) rfl).trans rfl) ?_
          refine xw_goto (show xm_Imp g Γ 112 (xi_goto 73) from xs_goto hΓ dX1_writeOperation_112 (by decide)) ?_
          have hq := hk73 _ e; exact hq
        rw [if_neg cc0] at e
        by_cases cc1 : c24 = 8
        · rw [if_pos cc1] at e
          obtain ⟨v32, e1, e⟩ := e
          refine xw_hv1 (o := l1) (xm_or2 (show xm_Imp g Γ 95 (xi_or (xi_vir g 7 M_X9_property 2 1 98) (xi_vir g 8 M_X10_property 1 1 98)) from xs_or (xs_invA hG hΓ (owner := "StringTableau$Operation") k_X9_property rfl (ci := 7) rfl q1781 q1783 q1788 q1787 q1782 ⟨by decide, by decide⟩ (by decide +kernel) dX1_writeOperation_95) (xs_invA hG hΓ (owner := "StringTableau$Operation") k_X10_property rfl (ci := 8) rfl q1781 q1783 q1785 q1784 q1782 ⟨by decide, by decide⟩ (by decide +kernel) dX1_writeOperation_95))) (by simp [xm_stk, xv_cat, xc_int, xc_long, xc_float, xc_double, xc_ref]) ha21 (xh_is_of e0 cc1) (fun Q X hQ => K_X10_property hG a21 5 _ e1 hQ) ?_
          refine xw_ild (show xm_Imp g Γ 98 (xi_ild 2 99) from xs_iload_n hΓ dX1_writeOperation_98) rfl ?_
          refine xw_sv3 (show xm_Imp g Γ 99 (xi_inv g M_X1_letterOf 2 3 102) from xs_invS hG hΓ k_X1_letterOf rfl q1237 q1238 dX1_writeOperation_99) (by simp [xm_stk, xv_cat, xc_int, xc_long, xc_float, xc_double, xc_ref]) (fun Q X hQ => K_X1_letterOf hG v23 v32 s.1 rfl hQ) ?_
          obtain ⟨_, e0, e⟩ := e
          obtain ⟨v33, e1, e⟩ := e
          refine xw_hv1 (o := (some (xm_sa g "StringTableau" 444))) (show xm_Imp g Γ 102 (xi_vir g 15 M_J6_charAt 11 1 105) from xs_invV hG hΓ k_J6_charAt rfl (ci := 15) rfl q1812 q928 q929 dX1_writeOperation_102) (by simp [xm_stk, xv_cat, xc_int, xc_long, xc_float, xc_double, xc_ref]) rfl e0 (fun Q X hQ => K_J6_charAt hG (xm_sa g "StringTableau" 444) (F_X1_letterOf v23 v32 s.1) _ e1 hQ) ?_
          obtain ⟨a34, ha34, e⟩ := e
          obtain ⟨_, e0, e⟩ := e
          obtain ⟨m35, m36, ⟨em1, em2⟩, e⟩ := e
          refine xw_tvr1 (o := v20) (show xm_Imp g Γ 105 (xi_vir g 14 M_J5_append 11 1 108) from xs_invV hG hΓ k_J5_append rfl (ci := 14) rfl q1797 q420 q421 dX1_writeOperation_105) (by simp [xm_stk, xv_cat, xc_int, xc_long, xc_float, xc_double, xc_ref]) ha34 e0 em1 em2 (K_J5_append hG a34 v33 _ _ _ e) (fun v38 h37 e => ?_)
          refine xw_pop (show xm_Imp g Γ 108 (xi_pop 109) from xs_pop hΓ dX1_writeOperation_108) (xm_c1_rf v38) ?_
          refine xw_inc (v := (1)) (ls' := [some (.ref l0), some (va_rf l1), some (.int (s.1 + 1))]) (show xm_Imp g Γ 109 (xi_inc 2 (1) 112) from xs_iinc hΓ dX1_writeOperation_109 (by decide) (Nat.le_of_ble_eq_true rfl)) rfl ((xm_s1_o (o := l1) rfl).trans rfl) ?_
          refine xw_goto (show xm_Imp g Γ 112 (xi_goto 73) from xs_goto hΓ dX1_writeOperation_112 (by decide)) ?_
          have hq := hk73 _ e; exact hq
        rw [if_neg cc1] at e
        exact e.elim
      rw [if_neg cc0] at e
      by_cases cc1 : c22 = 8
      · rw [if_pos cc1] at e
        obtain ⟨v39, e1, e⟩ := e
        refine xw_hv1 (o := l1) (xm_or2 (show xm_Imp g Γ 90 (xi_or (xi_vir g 7 M_X9_property 2 1 93) (xi_vir g 8 M_X10_property 1 1 93)) from xs_or (xs_invA hG hΓ (owner := "StringTableau$Operation") k_X9_property rfl (ci := 7) rfl q1781 q1783 q1788 q1787 q1782 ⟨by decide, by decide⟩ (by decide +kernel) dX1_writeOperation_90) (xs_invA hG hΓ (owner := "StringTableau$Operation") k_X10_property rfl (ci := 8) rfl q1781 q1783 q1785 q1784 q1782 ⟨by decide, by decide⟩ (by decide +kernel) dX1_writeOperation_90))) (by simp [xm_stk, xv_cat, xc_int, xc_long, xc_float, xc_double, xc_ref]) ha21 (xh_is_of e0 cc1) (fun Q X hQ => K_X10_property hG a21 4 _ e1 hQ) ?_
        refine xw_aldo (x := l1) (show xm_Imp g Γ 93 (xi_ald 1 94) from xs_aload_n hΓ dX1_writeOperation_93) rfl ?_
        refine xw_psh (v := (.int (5))) (show xm_Imp g Γ 94 (xi_psh (.int (5)) 95) from xs_iconst hΓ dX1_writeOperation_94 (by decide)) ?_
        obtain ⟨c40, e0, e⟩ := e
        by_cases cc0 : c40 = 7
        · rw [if_pos cc0] at e
          obtain ⟨v41, e1, e⟩ := e
          refine xw_hv1 (o := l1) (xm_or1 (show xm_Imp g Γ 95 (xi_or (xi_vir g 7 M_X9_property 2 1 98) (xi_vir g 8 M_X10_property 1 1 98)) from xs_or (xs_invA hG hΓ (owner := "StringTableau$Operation") k_X9_property rfl (ci := 7) rfl q1781 q1783 q1788 q1787 q1782 ⟨by decide, by decide⟩ (by decide +kernel) dX1_writeOperation_95) (xs_invA hG hΓ (owner := "StringTableau$Operation") k_X10_property rfl (ci := 8) rfl q1781 q1783 q1785 q1784 q1782 ⟨by decide, by decide⟩ (by decide +kernel) dX1_writeOperation_95))) (by simp [xm_stk, xv_cat, xc_int, xc_long, xc_float, xc_double, xc_ref]) ha21 (xh_is_of e0 cc0) (fun Q X hQ => K_X9_property hG a21 5 _ e1 hQ) ?_
          refine xw_ild (show xm_Imp g Γ 98 (xi_ild 2 99) from xs_iload_n hΓ dX1_writeOperation_98) rfl ?_
          refine xw_sv3 (show xm_Imp g Γ 99 (xi_inv g M_X1_letterOf 2 3 102) from xs_invS hG hΓ k_X1_letterOf rfl q1237 q1238 dX1_writeOperation_99) (by simp [xm_stk, xv_cat, xc_int, xc_long, xc_float, xc_double, xc_ref]) (fun Q X hQ => K_X1_letterOf hG v39 v41 s.1 rfl hQ) ?_
          obtain ⟨_, e0, e⟩ := e
          obtain ⟨v42, e1, e⟩ := e
          refine xw_hv1 (o := (some (xm_sa g "StringTableau" 444))) (show xm_Imp g Γ 102 (xi_vir g 15 M_J6_charAt 11 1 105) from xs_invV hG hΓ k_J6_charAt rfl (ci := 15) rfl q1812 q928 q929 dX1_writeOperation_102) (by simp [xm_stk, xv_cat, xc_int, xc_long, xc_float, xc_double, xc_ref]) rfl e0 (fun Q X hQ => K_J6_charAt hG (xm_sa g "StringTableau" 444) (F_X1_letterOf v39 v41 s.1) _ e1 hQ) ?_
          obtain ⟨a43, ha43, e⟩ := e
          obtain ⟨_, e0, e⟩ := e
          obtain ⟨m44, m45, ⟨em1, em2⟩, e⟩ := e
          refine xw_tvr1 (o := v20) (show xm_Imp g Γ 105 (xi_vir g 14 M_J5_append 11 1 108) from xs_invV hG hΓ k_J5_append rfl (ci := 14) rfl q1797 q420 q421 dX1_writeOperation_105) (by simp [xm_stk, xv_cat, xc_int, xc_long, xc_float, xc_double, xc_ref]) ha43 e0 em1 em2 (K_J5_append hG a43 v42 _ _ _ e) (fun v47 h46 e => ?_)
          refine xw_pop (show xm_Imp g Γ 108 (xi_pop 109) from xs_pop hΓ dX1_writeOperation_108) (xm_c1_rf v47) ?_
          refine xw_inc (v := (1)) (ls' := [some (.ref l0), some (va_rf l1), some (.int (s.1 + 1))]) (show xm_Imp g Γ 109 (xi_inc 2 (1) 112) from xs_iinc hΓ dX1_writeOperation_109 (by decide) (Nat.le_of_ble_eq_true rfl)) rfl ((xm_s1_o (o := l1) rfl).trans rfl) ?_
          refine xw_goto (show xm_Imp g Γ 112 (xi_goto 73) from xs_goto hΓ dX1_writeOperation_112 (by decide)) ?_
          have hq := hk73 _ e; exact hq
        rw [if_neg cc0] at e
        by_cases cc1 : c40 = 8
        · rw [if_pos cc1] at e
          obtain ⟨v48, e1, e⟩ := e
          refine xw_hv1 (o := l1) (xm_or2 (show xm_Imp g Γ 95 (xi_or (xi_vir g 7 M_X9_property 2 1 98) (xi_vir g 8 M_X10_property 1 1 98)) from xs_or (xs_invA hG hΓ (owner := "StringTableau$Operation") k_X9_property rfl (ci := 7) rfl q1781 q1783 q1788 q1787 q1782 ⟨by decide, by decide⟩ (by decide +kernel) dX1_writeOperation_95) (xs_invA hG hΓ (owner := "StringTableau$Operation") k_X10_property rfl (ci := 8) rfl q1781 q1783 q1785 q1784 q1782 ⟨by decide, by decide⟩ (by decide +kernel) dX1_writeOperation_95))) (by simp [xm_stk, xv_cat, xc_int, xc_long, xc_float, xc_double, xc_ref]) ha21 (xh_is_of e0 cc1) (fun Q X hQ => K_X10_property hG a21 5 _ e1 hQ) ?_
          refine xw_ild (show xm_Imp g Γ 98 (xi_ild 2 99) from xs_iload_n hΓ dX1_writeOperation_98) rfl ?_
          refine xw_sv3 (show xm_Imp g Γ 99 (xi_inv g M_X1_letterOf 2 3 102) from xs_invS hG hΓ k_X1_letterOf rfl q1237 q1238 dX1_writeOperation_99) (by simp [xm_stk, xv_cat, xc_int, xc_long, xc_float, xc_double, xc_ref]) (fun Q X hQ => K_X1_letterOf hG v39 v48 s.1 rfl hQ) ?_
          obtain ⟨_, e0, e⟩ := e
          obtain ⟨v49, e1, e⟩ := e
          refine xw_hv1 (o := (some (xm_sa g "StringTableau" 444))) (show xm_Imp g Γ 102 (xi_vir g 15 M_J6_charAt 11 1 105) from xs_invV hG hΓ k_J6_charAt rfl (ci := 15) rfl q1812 q928 q929 dX1_writeOperation_102) (by simp [xm_stk, xv_cat, xc_int, xc_long, xc_float, xc_double, xc_ref]) rfl e0 (fun Q X hQ => K_J6_charAt hG (xm_sa g "StringTableau" 444) (F_X1_letterOf v39 v48 s.1) _ e1 hQ) ?_
          obtain ⟨a50, ha50, e⟩ := e
          obtain ⟨_, e0, e⟩ := e
          obtain ⟨m51, m52, ⟨em1, em2⟩, e⟩ := e
          refine xw_tvr1 (o := v20) (show xm_Imp g Γ 105 (xi_vir g 14 M_J5_append 11 1 108) from xs_invV hG hΓ k_J5_append rfl (ci := 14) rfl q1797 q420 q421 dX1_writeOperation_105) (by simp [xm_stk, xv_cat, xc_int, xc_long, xc_float, xc_double, xc_ref]) ha50 e0 em1 em2 (K_J5_append hG a50 v49 _ _ _ e) (fun v54 h53 e => ?_)
          refine xw_pop (show xm_Imp g Γ 108 (xi_pop 109) from xs_pop hΓ dX1_writeOperation_108) (xm_c1_rf v54) ?_
          refine xw_inc (v := (1)) (ls' := [some (.ref l0), some (va_rf l1), some (.int (s.1 + 1))]) (show xm_Imp g Γ 109 (xi_inc 2 (1) 112) from xs_iinc hΓ dX1_writeOperation_109 (by decide) (Nat.le_of_ble_eq_true rfl)) rfl ((xm_s1_o (o := l1) rfl).trans rfl) ?_
          refine xw_goto (show xm_Imp g Γ 112 (xi_goto 73) from xs_goto hΓ dX1_writeOperation_112 (by decide)) ?_
          have hq := hk73 _ e; exact hq
        rw [if_neg cc1] at e
        exact e.elim
      rw [if_neg cc1] at e
      exact e.elim
  have hB_42 : ∀ (l0 : Nat) (l1 : Option Nat) (h : xm_H) (bc : Nat) (bs : Nat), B_X1_writeOperation_42 g l0 l1 h bc bs Q → xm_W g Γ 42 [some (.ref l0), some (va_rf l1), none] [] h bc bs := by
    intro l0 l1 h bc bs e
    unfold B_X1_writeOperation_42 at e
    refine xw_ald (show xm_Imp g Γ 42 (xi_ald 0 43) from xs_aload_n hΓ dX1_writeOperation_42) rfl ?_
    obtain ⟨v4, e1, e⟩ := e
    refine xw_gr1 (o := (some l0)) (show xm_Imp g Γ 43 (xi_get 0 8 46) from xs_get hG hΓ (ci := 0) (kf := 8) rfl (Nat.le_of_ble_eq_true rfl) q355 dX1_writeOperation_43) rfl e1 ?_
    refine xw_aldo (x := l1) (show xm_Imp g Γ 46 (xi_ald 1 47) from xs_aload_n hΓ dX1_writeOperation_46) rfl ?_
    obtain ⟨a5, ha5, e⟩ := e
    obtain ⟨v6, e1, e⟩ := e
    refine xw_gi2 (o := l1) (xm_or1 (show xm_Imp g Γ 47 (xi_or (xi_get 7 0 50) (xi_get 8 0 50)) from xs_or (xs_getN hG hΓ (ci := 7) (kf := 0) rfl (Nat.le_of_ble_eq_true rfl) q1002 dX1_writeOperation_47) (xs_getN hG hΓ (ci := 8) (kf := 0) rfl (Nat.le_of_ble_eq_true rfl) q1002 dX1_writeOperation_47))) (xm_or2 (show xm_Imp g Γ 47 (xi_or (xi_get 7 0 50) (xi_get 8 0 50)) from xs_or (xs_getN hG hΓ (ci := 7) (kf := 0) rfl (Nat.le_of_ble_eq_true rfl) q1002 dX1_writeOperation_47) (xs_getN hG hΓ (ci := 8) (kf := 0) rfl (Nat.le_of_ble_eq_true rfl) q1002 dX1_writeOperation_47))) ha5 e1 ?_
    obtain ⟨v7, e1, e⟩ := e
    refine xw_sv1 (show xm_Imp g Γ 50 (xi_inv g M_X1_nameOf 1 1 53) from xs_invS hG hΓ k_X1_nameOf rfl q1798 q1799 dX1_writeOperation_50) (by simp [xm_stk, xv_cat, xc_int, xc_long, xc_float, xc_double, xc_ref]) (fun Q X hQ => K_X1_nameOf hG v6 _ e1 hQ) ?_
    obtain ⟨a8, ha8, e⟩ := e
    obtain ⟨_, e0, e⟩ := e
    obtain ⟨m9, m10, ⟨em1, em2⟩, e⟩ := e
    refine xw_tvr1 (o := v4) (show xm_Imp g Γ 53 (xi_vir g 14 M_J5_append_3 12 1 56) from xs_invV hG hΓ k_J5_append_3 rfl (ci := 14) rfl q1795 q633 q634 dX1_writeOperation_53) (by simp [xm_stk, xv_cat, xc_int, xc_long, xc_float, xc_double, xc_ref]) ha8 e0 em1 em2 (K_J5_append_3 hG a8 v7 _ _ _ e) (fun v12 h11 e => ?_)
    refine xw_psh (v := (.int (32))) (show xm_Imp g Γ 56 (xi_psh (.int (32)) 58) from xs_bipush hΓ dX1_writeOperation_56 (by decide)) ?_
    obtain ⟨a13, ha13, e⟩ := e
    obtain ⟨_, e0, e⟩ := e
    obtain ⟨m14, m15, ⟨em1, em2⟩, e⟩ := e
    refine xw_tvr1 (o := v12) (show xm_Imp g Γ 58 (xi_vir g 14 M_J5_append 11 1 61) from xs_invV hG hΓ k_J5_append rfl (ci := 14) rfl q1797 q420 q421 dX1_writeOperation_58) (by simp [xm_stk, xv_cat, xc_int, xc_long, xc_float, xc_double, xc_ref]) ha13 e0 em1 em2 (K_J5_append hG a13 32 _ _ _ e) (fun v17 h16 e => ?_)
    refine xw_pop (show xm_Imp g Γ 61 (xi_pop 62) from xs_pop hΓ dX1_writeOperation_61) (xm_c1_rf v17) ?_
    refine xw_aldo (x := l1) (show xm_Imp g Γ 62 (xi_ald 1 63) from xs_aload_n hΓ dX1_writeOperation_62) rfl ?_
    obtain ⟨v18, e1, e⟩ := e
    refine xw_gi2 (o := l1) (xm_or1 (show xm_Imp g Γ 63 (xi_or (xi_get 7 0 66) (xi_get 8 0 66)) from xs_or (xs_getN hG hΓ (ci := 7) (kf := 0) rfl (Nat.le_of_ble_eq_true rfl) q1002 dX1_writeOperation_63) (xs_getN hG hΓ (ci := 8) (kf := 0) rfl (Nat.le_of_ble_eq_true rfl) q1002 dX1_writeOperation_63))) (xm_or2 (show xm_Imp g Γ 63 (xi_or (xi_get 7 0 66) (xi_get 8 0 66)) from xs_or (xs_getN hG hΓ (ci := 7) (kf := 0) rfl (Nat.le_of_ble_eq_true rfl) q1002 dX1_writeOperation_63) (xs_getN hG hΓ (ci := 8) (kf := 0) rfl (Nat.le_of_ble_eq_true rfl) q1002 dX1_writeOperation_63))) ha5 e1 ?_
    refine xw_psh (v := (.int (9))) (show xm_Imp g Γ 66 (xi_psh (.int (9)) 68) from xs_bipush hΓ dX1_writeOperation_66 (by decide)) ?_
    refine xw_ic (show xm_Imp g Γ 68 (xi_ic (fun x y => x = y) 71 116) from xs_icmp_ne hΓ dX1_writeOperation_68 (by decide)) (fun c => ?_) (fun c => ?_)
    · rw [if_pos c] at e
      refine xw_psh (v := (.int (0))) (show xm_Imp g Γ 71 (xi_psh (.int (0)) 72) from xs_iconst hΓ dX1_writeOperation_71 (by decide)) ?_
      refine xw_ist (ls' := [some (.ref l0), some (va_rf l1), some (.int 0)]) (show xm_Imp g Γ 72 (xi_ist 2 73) from xs_istore_n hΓ dX1_writeOperation_72 (Nat.le_of_ble_eq_true rfl)) ((xm_s1_o (o := l1) rfl).trans rfl) ?_
      exact hL_73 _ _ _ e
    · rw [if_neg c] at e
      refine xw_ald (show xm_Imp g Γ 116 (xi_ald 0 117) from xs_aload_n hΓ dX1_writeOperation_116) rfl ?_
      obtain ⟨v55, e1, e⟩ := e
      refine xw_gr1 (o := (some l0)) (show xm_Imp g Γ 117 (xi_get 0 8 120) from xs_get hG hΓ (ci := 0) (kf := 8) rfl (Nat.le_of_ble_eq_true rfl) q355 dX1_writeOperation_117) rfl e1 ?_
      refine xw_aldo (x := l1) (show xm_Imp g Γ 120 (xi_ald 1 121) from xs_aload_n hΓ dX1_writeOperation_120) rfl ?_
      refine xw_psh (v := (.int (1))) (show xm_Imp g Γ 121 (xi_psh (.int (1)) 122) from xs_iconst hΓ dX1_writeOperation_121 (by decide)) ?_
      obtain ⟨c56, e0, e⟩ := e
      by_cases cc0 : c56 = 7
      · rw [if_pos cc0] at e
        obtain ⟨v57, e1, e⟩ := e
        refine xw_hv1 (o := l1) (xm_or1 (show xm_Imp g Γ 122 (xi_or (xi_vir g 7 M_X9_property 2 1 125) (xi_vir g 8 M_X10_property 1 1 125)) from xs_or (xs_invA hG hΓ (owner := "StringTableau$Operation") k_X9_property rfl (ci := 7) rfl q1781 q1783 q1788 q1787 q1782 ⟨by decide, by decide⟩ (by decide +kernel) dX1_writeOperation_122) (xs_invA hG hΓ (owner := "StringTableau$Operation") k_X10_property rfl (ci := 8) rfl q1781 q1783 q1785 q1784 q1782 ⟨by decide, by decide⟩ (by decide +kernel) dX1_writeOperation_122))) (by simp [xm_stk, xv_cat, xc_int, xc_long, xc_float, xc_double, xc_ref]) ha5 (xh_is_of e0 cc0) (fun Q X hQ => K_X9_property hG a5 1 _ e1 hQ) ?_
        obtain ⟨a58, ha58, e⟩ := e
        obtain ⟨_, e0, e⟩ := e
        obtain ⟨m59, m60, ⟨em1, em2⟩, e⟩ := e
        refine xw_tvr1 (o := v55) (show xm_Imp g Γ 125 (xi_vir g 14 M_J5_append_2 11 1 128) from xs_invV hG hΓ k_J5_append_2 rfl (ci := 14) rfl q1796 q598 q599 dX1_writeOperation_125) (by simp [xm_stk, xv_cat, xc_int, xc_long, xc_float, xc_double, xc_ref]) ha58 e0 em1 em2 (K_J5_append_2 hG a58 v57 _ _ _ e) (fun v62 h61 e => ?_)
        refine xw_pop (show xm_Imp g Γ 128 (xi_pop 129) from xs_pop hΓ dX1_writeOperation_128) (xm_c1_rf v62) ?_
        refine xw_aldo (x := l1) (show xm_Imp g Γ 129 (xi_ald 1 130) from xs_aload_n hΓ dX1_writeOperation_129) rfl ?_
        refine xw_psh (v := (.int (2))) (show xm_Imp g Γ 130 (xi_psh (.int (2)) 131) from xs_iconst hΓ dX1_writeOperation_130 (by decide)) ?_
        obtain ⟨c63, e0, e⟩ := e
        by_cases cc0 : c63 = 7
        · rw [if_pos cc0] at e
          obtain ⟨v64, e1, e⟩ := e
          refine xw_hv1 (o := l1) (xm_or1 (show xm_Imp g Γ 131 (xi_or (xi_vir g 7 M_X9_property 2 1 134) (xi_vir g 8 M_X10_property 1 1 134)) from xs_or (xs_invA hG hΓ (owner := "StringTableau$Operation") k_X9_property rfl (ci := 7) rfl q1781 q1783 q1788 q1787 q1782 ⟨by decide, by decide⟩ (by decide +kernel) dX1_writeOperation_131) (xs_invA hG hΓ (owner := "StringTableau$Operation") k_X10_property rfl (ci := 8) rfl q1781 q1783 q1785 q1784 q1782 ⟨by decide, by decide⟩ (by decide +kernel) dX1_writeOperation_131))) (by simp [xm_stk, xv_cat, xc_int, xc_long, xc_float, xc_double, xc_ref]) ha5 (xh_is_of e0 cc0) (fun Q X hQ => K_X9_property hG a5 2 _ e1 hQ) ?_
          refine xw_psh (v := (.int (-1))) (show xm_Imp g Γ 134 (xi_psh (.int (-1)) 135) from xs_iconst hΓ dX1_writeOperation_134 (by decide)) ?_
          refine xw_ic (show xm_Imp g Γ 135 (xi_ic (fun x y => x = y) 156 138) from xs_icmp_eq hΓ dX1_writeOperation_135 (by decide)) (fun c => ?_) (fun c => ?_)
          · rw [if_pos c] at e
            exact xw_vret (show xm_Imp g Γ 156 (xi_vret _) from xs_return hΓ rfl dX1_writeOperation_156) ⟨rfl, e⟩
          · rw [if_neg c] at e
            refine xw_ald (show xm_Imp g Γ 138 (xi_ald 0 139) from xs_aload_n hΓ dX1_writeOperation_138) rfl ?_
            obtain ⟨v65, e1, e⟩ := e
            refine xw_gr1 (o := (some l0)) (show xm_Imp g Γ 139 (xi_get 0 8 142) from xs_get hG hΓ (ci := 0) (kf := 8) rfl (Nat.le_of_ble_eq_true rfl) q355 dX1_writeOperation_139) rfl e1 ?_
            refine xw_psh (v := (.int (32))) (show xm_Imp g Γ 142 (xi_psh (.int (32)) 144) from xs_bipush hΓ dX1_writeOperation_142 (by decide)) ?_
            obtain ⟨a66, ha66, e⟩ := e
            obtain ⟨_, e0, e⟩ := e
            obtain ⟨m67, m68, ⟨em1, em2⟩, e⟩ := e
            refine xw_tvr1 (o := v65) (show xm_Imp g Γ 144 (xi_vir g 14 M_J5_append 11 1 147) from xs_invV hG hΓ k_J5_append rfl (ci := 14) rfl q1797 q420 q421 dX1_writeOperation_144) (by simp [xm_stk, xv_cat, xc_int, xc_long, xc_float, xc_double, xc_ref]) ha66 e0 em1 em2 (K_J5_append hG a66 32 _ _ _ e) (fun v70 h69 e => ?_)
            refine xw_aldo (x := l1) (show xm_Imp g Γ 147 (xi_ald 1 148) from xs_aload_n hΓ dX1_writeOperation_147) rfl ?_
            refine xw_psh (v := (.int (2))) (show xm_Imp g Γ 148 (xi_psh (.int (2)) 149) from xs_iconst hΓ dX1_writeOperation_148 (by decide)) ?_
            obtain ⟨c71, e0, e⟩ := e
            by_cases cc0 : c71 = 7
            · rw [if_pos cc0] at e
              obtain ⟨v72, e1, e⟩ := e
              refine xw_hv1 (o := l1) (xm_or1 (show xm_Imp g Γ 149 (xi_or (xi_vir g 7 M_X9_property 2 1 152) (xi_vir g 8 M_X10_property 1 1 152)) from xs_or (xs_invA hG hΓ (owner := "StringTableau$Operation") k_X9_property rfl (ci := 7) rfl q1781 q1783 q1788 q1787 q1782 ⟨by decide, by decide⟩ (by decide +kernel) dX1_writeOperation_149) (xs_invA hG hΓ (owner := "StringTableau$Operation") k_X10_property rfl (ci := 8) rfl q1781 q1783 q1785 q1784 q1782 ⟨by decide, by decide⟩ (by decide +kernel) dX1_writeOperation_149))) (by simp [xm_stk, xv_cat, xc_int, xc_long, xc_float, xc_double, xc_ref]) ha5 (xh_is_of e0 cc0) (fun Q X hQ => K_X9_property hG a5 2 _ e1 hQ) ?_
              obtain ⟨a73, ha73, e⟩ := e
              obtain ⟨_, e0, e⟩ := e
              obtain ⟨m74, m75, ⟨em1, em2⟩, e⟩ := e
              refine xw_tvr1 (o := v70) (show xm_Imp g Γ 152 (xi_vir g 14 M_J5_append_2 11 1 155) from xs_invV hG hΓ k_J5_append_2 rfl (ci := 14) rfl q1796 q598 q599 dX1_writeOperation_152) (by simp [xm_stk, xv_cat, xc_int, xc_long, xc_float, xc_double, xc_ref]) ha73 e0 em1 em2 (K_J5_append_2 hG a73 v72 _ _ _ e) (fun v77 h76 e => ?_)
              refine xw_pop (show xm_Imp g Γ 155 (xi_pop 156) from xs_pop hΓ dX1_writeOperation_155) (xm_c1_rf v77) ?_
              exact xw_vret (show xm_Imp g Γ 156 (xi_vret _) from xs_return hΓ rfl dX1_writeOperation_156) ⟨rfl, e⟩
            rw [if_neg cc0] at e
            by_cases cc1 : c71 = 8
            · rw [if_pos cc1] at e
              obtain ⟨v78, e1, e⟩ := e
              refine xw_hv1 (o := l1) (xm_or2 (show xm_Imp g Γ 149 (xi_or (xi_vir g 7 M_X9_property 2 1 152) (xi_vir g 8 M_X10_property 1 1 152)) from xs_or (xs_invA hG hΓ (owner := "StringTableau$Operation") k_X9_property rfl (ci := 7) rfl q1781 q1783 q1788 q1787 q1782 ⟨by decide, by decide⟩ (by decide +kernel) dX1_writeOperation_149) (xs_invA hG hΓ (owner := "StringTableau$Operation") k_X10_property rfl (ci := 8) rfl q1781 q1783 q1785 q1784 q1782 ⟨by decide, by decide⟩ (by decide +kernel) dX1_writeOperation_149))) (by simp [xm_stk, xv_cat, xc_int, xc_long, xc_float, xc_double, xc_ref]) ha5 (xh_is_of e0 cc1) (fun Q X hQ => K_X10_property hG a5 2 _ e1 hQ) ?_
              obtain ⟨a79, ha79, e⟩ := e
              obtain ⟨_, e0, e⟩ := e
              obtain ⟨m80, m81, ⟨em1, em2⟩, e⟩ := e
              refine xw_tvr1 (o := v70) (show xm_Imp g Γ 152 (xi_vir g 14 M_J5_append_2 11 1 155) from xs_invV hG hΓ k_J5_append_2 rfl (ci := 14) rfl q1796 q598 q599 dX1_writeOperation_152) (by simp [xm_stk, xv_cat, xc_int, xc_long, xc_float, xc_double, xc_ref]) ha79 e0 em1 em2 (K_J5_append_2 hG a79 v78 _ _ _ e) (fun v83 h82 e => ?_)
              refine xw_pop (show xm_Imp g Γ 155 (xi_pop 156) from xs_pop hΓ dX1_writeOperation_155) (xm_c1_rf v83) ?_
              exact xw_vret (show xm_Imp g Γ 156 (xi_vret _) from xs_return hΓ rfl dX1_writeOperation_156) ⟨rfl, e⟩
            rw [if_neg cc1] at e
            exact e.elim
        rw [if_neg cc0] at e
        by_cases cc1 : c63 = 8
        · rw [if_pos cc1] at e
          obtain ⟨v84, e1, e⟩ := e
          refine xw_hv1 (o := l1) (xm_or2 (show xm_Imp g Γ 131 (xi_or (xi_vir g 7 M_X9_property 2 1 134) (xi_vir g 8 M_X10_property 1 1 134)) from xs_or (xs_invA hG hΓ (owner := "StringTableau$Operation") k_X9_property rfl (ci := 7) rfl q1781 q1783 q1788 q1787 q1782 ⟨by decide, by decide⟩ (by decide +kernel) dX1_writeOperation_131) (xs_invA hG hΓ (owner := "StringTableau$Operation") k_X10_property rfl (ci := 8) rfl q1781 q1783 q1785 q1784 q1782 ⟨by decide, by decide⟩ (by decide +kernel) dX1_writeOperation_131))) (by simp [xm_stk, xv_cat, xc_int, xc_long, xc_float, xc_double, xc_ref]) ha5 (xh_is_of e0 cc1) (fun Q X hQ => K_X10_property hG a5 2 _ e1 hQ) ?_
          refine xw_psh (v := (.int (-1))) (show xm_Imp g Γ 134 (xi_psh (.int (-1)) 135) from xs_iconst hΓ dX1_writeOperation_134 (by decide)) ?_
          refine xw_ic (show xm_Imp g Γ 135 (xi_ic (fun x y => x = y) 156 138) from xs_icmp_eq hΓ dX1_writeOperation_135 (by decide)) (fun c => ?_) (fun c => ?_)
          · rw [if_pos c] at e
            exact xw_vret (show xm_Imp g Γ 156 (xi_vret _) from xs_return hΓ rfl dX1_writeOperation_156) ⟨rfl, e⟩
          · rw [if_neg c] at e
            refine xw_ald (show xm_Imp g Γ 138 (xi_ald 0 139) from xs_aload_n hΓ dX1_writeOperation_138) rfl ?_
            obtain ⟨v85, e1, e⟩ := e
            refine xw_gr1 (o := (some l0)) (show xm_Imp g Γ 139 (xi_get 0 8 142) from xs_get hG hΓ (ci := 0) (kf := 8) rfl (Nat.le_of_ble_eq_true rfl) q355 dX1_writeOperation_139) rfl e1 ?_
            refine xw_psh (v := (.int (32))) (show xm_Imp g Γ 142 (xi_psh (.int (32)) 144) from xs_bipush hΓ dX1_writeOperation_142 (by decide)) ?_
            obtain ⟨a86, ha86, e⟩ := e
            obtain ⟨_, e0, e⟩ := e
            obtain ⟨m87, m88, ⟨em1, em2⟩, e⟩ := e
            refine xw_tvr1 (o := v85) (show xm_Imp g Γ 144 (xi_vir g 14 M_J5_append 11 1 147) from xs_invV hG hΓ k_J5_append rfl (ci := 14) rfl q1797 q420 q421 dX1_writeOperation_144) (by simp [xm_stk, xv_cat, xc_int, xc_long, xc_float, xc_double, xc_ref]) ha86 e0 em1 em2 (K_J5_append hG a86 32 _ _ _ e) (fun v90 h89 e => ?_)
            refine xw_aldo (x := l1) (show xm_Imp g Γ 147 (xi_ald 1 148) from xs_aload_n hΓ dX1_writeOperation_147) rfl ?_
            refine xw_psh (v := (.int (2))) (show xm_Imp g Γ 148 (xi_psh (.int (2)) 149) from xs_iconst hΓ dX1_writeOperation_148 (by decide)) ?_
            obtain ⟨c91, e0, e⟩ := e
            by_cases cc0 : c91 = 7
            · rw [if_pos cc0] at e
              obtain ⟨v92, e1, e⟩ := e
              refine xw_hv1 (o := l1) (xm_or1 (show xm_Imp g Γ 149 (xi_or (xi_vir g 7 M_X9_property 2 1 152) (xi_vir g 8 M_X10_property 1 1 152)) from xs_or (xs_invA hG hΓ (owner := "StringTableau$Operation") k_X9_property rfl (ci := 7) rfl q1781 q1783 q1788 q1787 q1782 ⟨by decide, by decide⟩ (by decide +kernel) dX1_writeOperation_149) (xs_invA hG hΓ (owner := "StringTableau$Operation") k_X10_property rfl (ci := 8) rfl q1781 q1783 q1785 q1784 q1782 ⟨by decide, by decide⟩ (by decide +kernel) dX1_writeOperation_149))) (by simp [xm_stk, xv_cat, xc_int, xc_long, xc_float, xc_double, xc_ref]) ha5 (xh_is_of e0 cc0) (fun Q X hQ => K_X9_property hG a5 2 _ e1 hQ) ?_
              obtain ⟨a93, ha93, e⟩ := e
              obtain ⟨_, e0, e⟩ := e
              obtain ⟨m94, m95, ⟨em1, em2⟩, e⟩ := e
              refine xw_tvr1 (o := v90) (show xm_Imp g Γ 152 (xi_vir g 14 M_J5_append_2 11 1 155) from xs_invV hG hΓ k_J5_append_2 rfl (ci := 14) rfl q1796 q598 q599 dX1_writeOperation_152) (by simp [xm_stk, xv_cat, xc_int, xc_long, xc_float, xc_double, xc_ref]) ha93 e0 em1 em2 (K_J5_append_2 hG a93 v92 _ _ _ e) (fun v97 h96 e => ?_)
              refine xw_pop (show xm_Imp g Γ 155 (xi_pop 156) from xs_pop hΓ dX1_writeOperation_155) (xm_c1_rf v97) ?_
              exact xw_vret (show xm_Imp g Γ 156 (xi_vret _) from xs_return hΓ rfl dX1_writeOperation_156) ⟨rfl, e⟩
            rw [if_neg cc0] at e
            by_cases cc1 : c91 = 8
            · rw [if_pos cc1] at e
              obtain ⟨v98, e1, e⟩ := e
              refine xw_hv1 (o := l1) (xm_or2 (show xm_Imp g Γ 149 (xi_or (xi_vir g 7 M_X9_property 2 1 152) (xi_vir g 8 M_X10_property 1 1 152)) from xs_or (xs_invA hG hΓ (owner := "StringTableau$Operation") k_X9_property rfl (ci := 7) rfl q1781 q1783 q1788 q1787 q1782 ⟨by decide, by decide⟩ (by decide +kernel) dX1_writeOperation_149) (xs_invA hG hΓ (owner := "StringTableau$Operation") k_X10_property rfl (ci := 8) rfl q1781 q1783 q1785 q1784 q1782 ⟨by decide, by decide⟩ (by decide +kernel) dX1_writeOperation_149))) (by simp [xm_stk, xv_cat, xc_int, xc_long, xc_float, xc_double, xc_ref]) ha5 (xh_is_of e0 cc1) (fun Q X hQ => K_X10_property hG a5 2 _ e1 hQ) ?_
              obtain ⟨a99, ha99, e⟩ := e
              obtain ⟨_, e0, e⟩ := e
              obtain ⟨m100, m101, ⟨em1, em2⟩, e⟩ := e
              refine xw_tvr1 (o := v90) (show xm_Imp g Γ 152 (xi_vir g 14 M_J5_append_2 11 1 155) from xs_invV hG hΓ k_J5_append_2 rfl (ci := 14) rfl q1796 q598 q599 dX1_writeOperation_152) (by simp [xm_stk, xv_cat, xc_int, xc_long, xc_float, xc_double, xc_ref]) ha99 e0 em1 em2 (K_J5_append_2 hG a99 v98 _ _ _ e) (fun v103 h102 e => ?_)
              refine xw_pop (show xm_Imp g Γ 155 (xi_pop 156) from xs_pop hΓ dX1_writeOperation_155) (xm_c1_rf v103) ?_
              exact xw_vret (show xm_Imp g Γ 156 (xi_vret _) from xs_return hΓ rfl dX1_writeOperation_156) ⟨rfl, e⟩
            rw [if_neg cc1] at e
            exact e.elim
        rw [if_neg cc1] at e
        exact e.elim
      rw [if_neg cc0] at e
      by_cases cc1 : c56 = 8
      · rw [if_pos cc1] at e
        obtain ⟨v104, e1, e⟩ := e
        refine xw_hv1 (o := l1) (xm_or2 (show xm_Imp g Γ 122 (xi_or (xi_vir g 7 M_X9_property 2 1 125) (xi_vir g 8 M_X10_property 1 1 125)) from xs_or (xs_invA hG hΓ (owner := "StringTableau$Operation") k_X9_property rfl (ci := 7) rfl q1781 q1783 q1788 q1787 q1782 ⟨by decide, by decide⟩ (by decide +kernel) dX1_writeOperation_122) (xs_invA hG hΓ (owner := "StringTableau$Operation") k_X10_property rfl (ci := 8) rfl q1781 q1783 q1785 q1784 q1782 ⟨by decide, by decide⟩ (by decide +kernel) dX1_writeOperation_122))) (by simp [xm_stk, xv_cat, xc_int, xc_long, xc_float, xc_double, xc_ref]) ha5 (xh_is_of e0 cc1) (fun Q X hQ => K_X10_property hG a5 1 _ e1 hQ) ?_
        obtain ⟨a105, ha105, e⟩ := e
        obtain ⟨_, e0, e⟩ := e
        obtain ⟨m106, m107, ⟨em1, em2⟩, e⟩ := e
        refine xw_tvr1 (o := v55) (show xm_Imp g Γ 125 (xi_vir g 14 M_J5_append_2 11 1 128) from xs_invV hG hΓ k_J5_append_2 rfl (ci := 14) rfl q1796 q598 q599 dX1_writeOperation_125) (by simp [xm_stk, xv_cat, xc_int, xc_long, xc_float, xc_double, xc_ref]) ha105 e0 em1 em2 (K_J5_append_2 hG a105 v104 _ _ _ e) (fun v109 h108 e => ?_)
        refine xw_pop (show xm_Imp g Γ 128 (xi_pop 129) from xs_pop hΓ dX1_writeOperation_128) (xm_c1_rf v109) ?_
        refine xw_aldo (x := l1) (show xm_Imp g Γ 129 (xi_ald 1 130) from xs_aload_n hΓ dX1_writeOperation_129) rfl ?_
        refine xw_psh (v := (.int (2))) (show xm_Imp g Γ 130 (xi_psh (.int (2)) 131) from xs_iconst hΓ dX1_writeOperation_130 (by decide)) ?_
        obtain ⟨c110, e0, e⟩ := e
        by_cases cc0 : c110 = 7
        · rw [if_pos cc0] at e
          obtain ⟨v111, e1, e⟩ := e
          refine xw_hv1 (o := l1) (xm_or1 (show xm_Imp g Γ 131 (xi_or (xi_vir g 7 M_X9_property 2 1 134) (xi_vir g 8 M_X10_property 1 1 134)) from xs_or (xs_invA hG hΓ (owner := "StringTableau$Operation") k_X9_property rfl (ci := 7) rfl q1781 q1783 q1788 q1787 q1782 ⟨by decide, by decide⟩ (by decide +kernel) dX1_writeOperation_131) (xs_invA hG hΓ (owner := "StringTableau$Operation") k_X10_property rfl (ci := 8) rfl q1781 q1783 q1785 q1784 q1782 ⟨by decide, by decide⟩ (by decide +kernel) dX1_writeOperation_131))) (by simp [xm_stk, xv_cat, xc_int, xc_long, xc_float, xc_double, xc_ref]) ha5 (xh_is_of e0 cc0) (fun Q X hQ => K_X9_property hG a5 2 _ e1 hQ) ?_
          refine xw_psh (v := (.int (-1))) (show xm_Imp g Γ 134 (xi_psh (.int (-1)) 135) from xs_iconst hΓ dX1_writeOperation_134 (by decide)) ?_
          refine xw_ic (show xm_Imp g Γ 135 (xi_ic (fun x y => x = y) 156 138) from xs_icmp_eq hΓ dX1_writeOperation_135 (by decide)) (fun c => ?_) (fun c => ?_)
          · rw [if_pos c] at e
            exact xw_vret (show xm_Imp g Γ 156 (xi_vret _) from xs_return hΓ rfl dX1_writeOperation_156) ⟨rfl, e⟩
          · rw [if_neg c] at e
            refine xw_ald (show xm_Imp g Γ 138 (xi_ald 0 139) from xs_aload_n hΓ dX1_writeOperation_138) rfl ?_
            obtain ⟨v112, e1, e⟩ := e
            refine xw_gr1 (o := (some l0)) (show xm_Imp g Γ 139 (xi_get 0 8 142) from xs_get hG hΓ (ci := 0) (kf := 8) rfl (Nat.le_of_ble_eq_true rfl) q355 dX1_writeOperation_139) rfl e1 ?_
            refine xw_psh (v := (.int (32))) (show xm_Imp g Γ 142 (xi_psh (.int (32)) 144) from xs_bipush hΓ dX1_writeOperation_142 (by decide)) ?_
            obtain ⟨a113, ha113, e⟩ := e
            obtain ⟨_, e0, e⟩ := e
            obtain ⟨m114, m115, ⟨em1, em2⟩, e⟩ := e
            refine xw_tvr1 (o := v112) (show xm_Imp g Γ 144 (xi_vir g 14 M_J5_append 11 1 147) from xs_invV hG hΓ k_J5_append rfl (ci := 14) rfl q1797 q420 q421 dX1_writeOperation_144) (by simp [xm_stk, xv_cat, xc_int, xc_long, xc_float, xc_double, xc_ref]) ha113 e0 em1 em2 (K_J5_append hG a113 32 _ _ _ e) (fun v117 h116 e => ?_)
            refine xw_aldo (x := l1) (show xm_Imp g Γ 147 (xi_ald 1 148) from xs_aload_n hΓ dX1_writeOperation_147) rfl ?_
            refine xw_psh (v := (.int (2))) (show xm_Imp g Γ 148 (xi_psh (.int (2)) 149) from xs_iconst hΓ dX1_writeOperation_148 (by decide)) ?_
            obtain ⟨c118, e0, e⟩ := e
            by_cases cc0 : c118 = 7
            · rw [if_pos cc0] at e
              obtain ⟨v119, e1, e⟩ := e
              refine xw_hv1 (o := l1) (xm_or1 (show xm_Imp g Γ 149 (xi_or (xi_vir g 7 M_X9_property 2 1 152) (xi_vir g 8 M_X10_property 1 1 152)) from xs_or (xs_invA hG hΓ (owner := "StringTableau$Operation") k_X9_property rfl (ci := 7) rfl q1781 q1783 q1788 q1787 q1782 ⟨by decide, by decide⟩ (by decide +kernel) dX1_writeOperation_149) (xs_invA hG hΓ (owner := "StringTableau$Operation") k_X10_property rfl (ci := 8) rfl q1781 q1783 q1785 q1784 q1782 ⟨by decide, by decide⟩ (by decide +kernel) dX1_writeOperation_149))) (by simp [xm_stk, xv_cat, xc_int, xc_long, xc_float, xc_double, xc_ref]) ha5 (xh_is_of e0 cc0) (fun Q X hQ => K_X9_property hG a5 2 _ e1 hQ) ?_
              obtain ⟨a120, ha120, e⟩ := e
              obtain ⟨_, e0, e⟩ := e
              obtain ⟨m121, m122, ⟨em1, em2⟩, e⟩ := e
              refine xw_tvr1 (o := v117) (show xm_Imp g Γ 152 (xi_vir g 14 M_J5_append_2 11 1 155) from xs_invV hG hΓ k_J5_append_2 rfl (ci := 14) rfl q1796 q598 q599 dX1_writeOperation_152) (by simp [xm_stk, xv_cat, xc_int, xc_long, xc_float, xc_double, xc_ref]) ha120 e0 em1 em2 (K_J5_append_2 hG a120 v119 _ _ _ e) (fun v124 h123 e => ?_)
              refine xw_pop (show xm_Imp g Γ 155 (xi_pop 156) from xs_pop hΓ dX1_writeOperation_155) (xm_c1_rf v124) ?_
              exact xw_vret (show xm_Imp g Γ 156 (xi_vret _) from xs_return hΓ rfl dX1_writeOperation_156) ⟨rfl, e⟩
            rw [if_neg cc0] at e
            by_cases cc1 : c118 = 8
            · rw [if_pos cc1] at e
              obtain ⟨v125, e1, e⟩ := e
              refine xw_hv1 (o := l1) (xm_or2 (show xm_Imp g Γ 149 (xi_or (xi_vir g 7 M_X9_property 2 1 152) (xi_vir g 8 M_X10_property 1 1 152)) from xs_or (xs_invA hG hΓ (owner := "StringTableau$Operation") k_X9_property rfl (ci := 7) rfl q1781 q1783 q1788 q1787 q1782 ⟨by decide, by decide⟩ (by decide +kernel) dX1_writeOperation_149) (xs_invA hG hΓ (owner := "StringTableau$Operation") k_X10_property rfl (ci := 8) rfl q1781 q1783 q1785 q1784 q1782 ⟨by decide, by decide⟩ (by decide +kernel) dX1_writeOperation_149))) (by simp [xm_stk, xv_cat, xc_int, xc_long, xc_float, xc_double, xc_ref]) ha5 (xh_is_of e0 cc1) (fun Q X hQ => K_X10_property hG a5 2 _ e1 hQ) ?_
              obtain ⟨a126, ha126, e⟩ := e
              obtain ⟨_, e0, e⟩ := e
              obtain ⟨m127, m128, ⟨em1, em2⟩, e⟩ := e
              refine xw_tvr1 (o := v117) (show xm_Imp g Γ 152 (xi_vir g 14 M_J5_append_2 11 1 155) from xs_invV hG hΓ k_J5_append_2 rfl (ci := 14) rfl q1796 q598 q599 dX1_writeOperation_152) (by simp [xm_stk, xv_cat, xc_int, xc_long, xc_float, xc_double, xc_ref]) ha126 e0 em1 em2 (K_J5_append_2 hG a126 v125 _ _ _ e) (fun v130 h129 e => ?_)
              refine xw_pop (show xm_Imp g Γ 155 (xi_pop 156) from xs_pop hΓ dX1_writeOperation_155) (xm_c1_rf v130) ?_
              exact xw_vret (show xm_Imp g Γ 156 (xi_vret _) from xs_return hΓ rfl dX1_writeOperation_156) ⟨rfl, e⟩
            rw [if_neg cc1] at e
            exact e.elim
        rw [if_neg cc0] at e
        by_cases cc1 : c110 = 8
        · rw [if_pos cc1] at e
          obtain ⟨v131, e1, e⟩ := e
          refine xw_hv1 (o := l1) (xm_or2 (show xm_Imp g Γ 131 (xi_or (xi_vir g 7 M_X9_property 2 1 134) (xi_vir g 8 M_X10_property 1 1 134)) from xs_or (xs_invA hG hΓ (owner := "StringTableau$Operation") k_X9_property rfl (ci := 7) rfl q1781 q1783 q1788 q1787 q1782 ⟨by decide, by decide⟩ (by decide +kernel) dX1_writeOperation_131) (xs_invA hG hΓ (owner := "StringTableau$Operation") k_X10_property rfl (ci := 8) rfl q1781 q1783 q1785 q1784 q1782 ⟨by decide, by decide⟩ (by decide +kernel) dX1_writeOperation_131))) (by simp [xm_stk, xv_cat, xc_int, xc_long, xc_float, xc_double, xc_ref]) ha5 (xh_is_of e0 cc1) (fun Q X hQ => K_X10_property hG a5 2 _ e1 hQ) ?_
          refine xw_psh (v := (.int (-1))) (show xm_Imp g Γ 134 (xi_psh (.int (-1)) 135) from xs_iconst hΓ dX1_writeOperation_134 (by decide)) ?_
          refine xw_ic (show xm_Imp g Γ 135 (xi_ic (fun x y => x = y) 156 138) from xs_icmp_eq hΓ dX1_writeOperation_135 (by decide)) (fun c => ?_) (fun c => ?_)
          · rw [if_pos c] at e
            exact xw_vret (show xm_Imp g Γ 156 (xi_vret _) from xs_return hΓ rfl dX1_writeOperation_156) ⟨rfl, e⟩
          · rw [if_neg c] at e
            refine xw_ald (show xm_Imp g Γ 138 (xi_ald 0 139) from xs_aload_n hΓ dX1_writeOperation_138) rfl ?_
            obtain ⟨v132, e1, e⟩ := e
            refine xw_gr1 (o := (some l0)) (show xm_Imp g Γ 139 (xi_get 0 8 142) from xs_get hG hΓ (ci := 0) (kf := 8) rfl (Nat.le_of_ble_eq_true rfl) q355 dX1_writeOperation_139) rfl e1 ?_
            refine xw_psh (v := (.int (32))) (show xm_Imp g Γ 142 (xi_psh (.int (32)) 144) from xs_bipush hΓ dX1_writeOperation_142 (by decide)) ?_
            obtain ⟨a133, ha133, e⟩ := e
            obtain ⟨_, e0, e⟩ := e
            obtain ⟨m134, m135, ⟨em1, em2⟩, e⟩ := e
            refine xw_tvr1 (o := v132) (show xm_Imp g Γ 144 (xi_vir g 14 M_J5_append 11 1 147) from xs_invV hG hΓ k_J5_append rfl (ci := 14) rfl q1797 q420 q421 dX1_writeOperation_144) (by simp [xm_stk, xv_cat, xc_int, xc_long, xc_float, xc_double, xc_ref]) ha133 e0 em1 em2 (K_J5_append hG a133 32 _ _ _ e) (fun v137 h136 e => ?_)
            refine xw_aldo (x := l1) (show xm_Imp g Γ 147 (xi_ald 1 148) from xs_aload_n hΓ dX1_writeOperation_147) rfl ?_
            refine xw_psh (v := (.int (2))) (show xm_Imp g Γ 148 (xi_psh (.int (2)) 149) from xs_iconst hΓ dX1_writeOperation_148 (by decide)) ?_
            obtain ⟨c138, e0, e⟩ := e
            by_cases cc0 : c138 = 7
            · rw [if_pos cc0] at e
              obtain ⟨v139, e1, e⟩ := e
              refine xw_hv1 (o := l1) (xm_or1 (show xm_Imp g Γ 149 (xi_or (xi_vir g 7 M_X9_property 2 1 152) (xi_vir g 8 M_X10_property 1 1 152)) from xs_or (xs_invA hG hΓ (owner := "StringTableau$Operation") k_X9_property rfl (ci := 7) rfl q1781 q1783 q1788 q1787 q1782 ⟨by decide, by decide⟩ (by decide +kernel) dX1_writeOperation_149) (xs_invA hG hΓ (owner := "StringTableau$Operation") k_X10_property rfl (ci := 8) rfl q1781 q1783 q1785 q1784 q1782 ⟨by decide, by decide⟩ (by decide +kernel) dX1_writeOperation_149))) (by simp [xm_stk, xv_cat, xc_int, xc_long, xc_float, xc_double, xc_ref]) ha5 (xh_is_of e0 cc0) (fun Q X hQ => K_X9_property hG a5 2 _ e1 hQ) ?_
              obtain ⟨a140, ha140, e⟩ := e
              obtain ⟨_, e0, e⟩ := e
              obtain ⟨m141, m142, ⟨em1, em2⟩, e⟩ := e
              refine xw_tvr1 (o := v137) (show xm_Imp g Γ 152 (xi_vir g 14 M_J5_append_2 11 1 155) from xs_invV hG hΓ k_J5_append_2 rfl (ci := 14) rfl q1796 q598 q599 dX1_writeOperation_152) (by simp [xm_stk, xv_cat, xc_int, xc_long, xc_float, xc_double, xc_ref]) ha140 e0 em1 em2 (K_J5_append_2 hG a140 v139 _ _ _ e) (fun v144 h143 e => ?_)
              refine xw_pop (show xm_Imp g Γ 155 (xi_pop 156) from xs_pop hΓ dX1_writeOperation_155) (xm_c1_rf v144) ?_
              exact xw_vret (show xm_Imp g Γ 156 (xi_vret _) from xs_return hΓ rfl dX1_writeOperation_156) ⟨rfl, e⟩
            rw [if_neg cc0] at e
            by_cases cc1 : c138 = 8
            · rw [if_pos cc1] at e
              obtain ⟨v145, e1, e⟩ := e
              refine xw_hv1 (o := l1) (xm_or2 (show xm_Imp g Γ 149 (xi_or (xi_vir g 7 M_X9_property 2 1 152) (xi_vir g 8 M_X10_property 1 1 152)) from xs_or (xs_invA hG hΓ (owner := "StringTableau$Operation") k_X9_property rfl (ci := 7) rfl q1781 q1783 q1788 q1787 q1782 ⟨by decide, by decide⟩ (by decide +kernel) dX1_writeOperation_149) (xs_invA hG hΓ (owner := "StringTableau$Operation") k_X10_property rfl (ci := 8) rfl q1781 q1783 q1785 q1784 q1782 ⟨by decide, by decide⟩ (by decide +kernel) dX1_writeOperation_149))) (by simp [xm_stk, xv_cat, xc_int, xc_long, xc_float, xc_double, xc_ref]) ha5 (xh_is_of e0 cc1) (fun Q X hQ => K_X10_property hG a5 2 _ e1 hQ) ?_
              obtain ⟨a146, ha146, e⟩ := e
              obtain ⟨_, e0, e⟩ := e
              obtain ⟨m147, m148, ⟨em1, em2⟩, e⟩ := e
              refine xw_tvr1 (o := v137) (show xm_Imp g Γ 152 (xi_vir g 14 M_J5_append_2 11 1 155) from xs_invV hG hΓ k_J5_append_2 rfl (ci := 14) rfl q1796 q598 q599 dX1_writeOperation_152) (by simp [xm_stk, xv_cat, xc_int, xc_long, xc_float, xc_double, xc_ref]) ha146 e0 em1 em2 (K_J5_append_2 hG a146 v145 _ _ _ e) (fun v150 h149 e => ?_)
              refine xw_pop (show xm_Imp g Γ 155 (xi_pop 156) from xs_pop hΓ dX1_writeOperation_155) (xm_c1_rf v150) ?_
              exact xw_vret (show xm_Imp g Γ 156 (xi_vret _) from xs_return hΓ rfl dX1_writeOperation_156) ⟨rfl, e⟩
            rw [if_neg cc1] at e
            exact e.elim
        rw [if_neg cc1] at e
        exact e.elim
      rw [if_neg cc1] at e
      exact e.elim
  unfold F_X1_writeOperation at e
  refine xw_aldo (x := p1) (show xm_Imp g Γ 0 (xi_ald 1 1) from xs_aload_n hΓ dX1_writeOperation_0) rfl ?_
  refine xw_psh (v := (.int (3))) (show xm_Imp g Γ 1 (xi_psh (.int (3)) 2) from xs_iconst hΓ dX1_writeOperation_1 (by decide)) ?_
  obtain ⟨a1, ha1, e⟩ := e
  obtain ⟨c2, e0, e⟩ := e
  by_cases cc0 : c2 = 7
  · rw [if_pos cc0] at e
    obtain ⟨v3, e1, e⟩ := e
    refine xw_hv1 (o := p1) (xm_or1 (show xm_Imp g Γ 2 (xi_or (xi_vir g 7 M_X9_property 2 1 5) (xi_vir g 8 M_X10_property 1 1 5)) from xs_or (xs_invA hG hΓ (owner := "StringTableau$Operation") k_X9_property rfl (ci := 7) rfl q1781 q1783 q1788 q1787 q1782 ⟨by decide, by decide⟩ (by decide +kernel) dX1_writeOperation_2) (xs_invA hG hΓ (owner := "StringTableau$Operation") k_X10_property rfl (ci := 8) rfl q1781 q1783 q1785 q1784 q1782 ⟨by decide, by decide⟩ (by decide +kernel) dX1_writeOperation_2))) (by simp [xm_stk, xv_cat, xc_int, xc_long, xc_float, xc_double, xc_ref]) ha1 (xh_is_of e0 cc0) (fun Q X hQ => K_X9_property hG a1 3 _ e1 hQ) ?_
    refine xw_psh (v := (.int (-1))) (show xm_Imp g Γ 5 (xi_psh (.int (-1)) 6) from xs_iconst hΓ dX1_writeOperation_5 (by decide)) ?_
    refine xw_ic (show xm_Imp g Γ 6 (xi_ic (fun x y => x = y) 42 9) from xs_icmp_eq hΓ dX1_writeOperation_6 (by decide)) (fun c => ?_) (fun c => ?_)
    · rw [if_pos c] at e
      exact hB_42 _ _ _ _ _ e
    · rw [if_neg c] at e
      refine xw_aldo (x := p1) (show xm_Imp g Γ 9 (xi_ald 1 10) from xs_aload_n hΓ dX1_writeOperation_9) rfl ?_
      obtain ⟨v151, e1, e⟩ := e
      refine xw_gi2 (o := p1) (xm_or1 (show xm_Imp g Γ 10 (xi_or (xi_get 7 0 13) (xi_get 8 0 13)) from xs_or (xs_getN hG hΓ (ci := 7) (kf := 0) rfl (Nat.le_of_ble_eq_true rfl) q1002 dX1_writeOperation_10) (xs_getN hG hΓ (ci := 8) (kf := 0) rfl (Nat.le_of_ble_eq_true rfl) q1002 dX1_writeOperation_10))) (xm_or2 (show xm_Imp g Γ 10 (xi_or (xi_get 7 0 13) (xi_get 8 0 13)) from xs_or (xs_getN hG hΓ (ci := 7) (kf := 0) rfl (Nat.le_of_ble_eq_true rfl) q1002 dX1_writeOperation_10) (xs_getN hG hΓ (ci := 8) (kf := 0) rfl (Nat.le_of_ble_eq_true rfl) q1002 dX1_writeOperation_10))) ha1 e1 ?_
      refine xw_psh (v := (.int (9))) (show xm_Imp g Γ 13 (xi_psh (.int (9)) 15) from xs_bipush hΓ dX1_writeOperation_13 (by decide)) ?_
      refine xw_ic (show xm_Imp g Γ 15 (xi_ic (fun x y => x = y) 42 18) from xs_icmp_eq hΓ dX1_writeOperation_15 (by decide)) (fun c => ?_) (fun c => ?_)
      · rw [if_pos c] at e
        exact hB_42 _ _ _ _ _ e
      · rw [if_neg c] at e
        refine xw_ald (show xm_Imp g Γ 18 (xi_ald 0 19) from xs_aload_n hΓ dX1_writeOperation_18) rfl ?_
        obtain ⟨v152, e1, e⟩ := e
        refine xw_gr1 (o := (some p0)) (show xm_Imp g Γ 19 (xi_get 0 8 22) from xs_get hG hΓ (ci := 0) (kf := 8) rfl (Nat.le_of_ble_eq_true rfl) q355 dX1_writeOperation_19) rfl e1 ?_
        refine xw_psh (v := (.ref (xm_sa g "StringTableau" 429))) (show xm_Imp g Γ 22 (xi_psh (.ref (xm_sa g "StringTableau" 429)) 25) from xs_ldSw hG hΓ q1794 dX1_writeOperation_22) ?_
        obtain ⟨a153, ha153, e⟩ := e
        obtain ⟨_, e0, e⟩ := e
        obtain ⟨m154, m155, ⟨em1, em2⟩, e⟩ := e
        refine xw_tvr1 (o := v152) (show xm_Imp g Γ 25 (xi_vir g 14 M_J5_append_3 12 1 28) from xs_invV hG hΓ k_J5_append_3 rfl (ci := 14) rfl q1795 q633 q634 dX1_writeOperation_25) (by simp [xm_stk, xv_cat, xc_int, xc_long, xc_float, xc_double, xc_ref]) ha153 e0 em1 em2 (K_J5_append_3 hG a153 (some (xm_sa g "StringTableau" 429)) _ _ _ e) (fun v157 h156 e => ?_)
        refine xw_aldo (x := p1) (show xm_Imp g Γ 28 (xi_ald 1 29) from xs_aload_n hΓ dX1_writeOperation_28) rfl ?_
        refine xw_psh (v := (.int (3))) (show xm_Imp g Γ 29 (xi_psh (.int (3)) 30) from xs_iconst hΓ dX1_writeOperation_29 (by decide)) ?_
        obtain ⟨c158, e0, e⟩ := e
        by_cases cc0 : c158 = 7
        · rw [if_pos cc0] at e
          obtain ⟨v159, e1, e⟩ := e
          refine xw_hv1 (o := p1) (xm_or1 (show xm_Imp g Γ 30 (xi_or (xi_vir g 7 M_X9_property 2 1 33) (xi_vir g 8 M_X10_property 1 1 33)) from xs_or (xs_invA hG hΓ (owner := "StringTableau$Operation") k_X9_property rfl (ci := 7) rfl q1781 q1783 q1788 q1787 q1782 ⟨by decide, by decide⟩ (by decide +kernel) dX1_writeOperation_30) (xs_invA hG hΓ (owner := "StringTableau$Operation") k_X10_property rfl (ci := 8) rfl q1781 q1783 q1785 q1784 q1782 ⟨by decide, by decide⟩ (by decide +kernel) dX1_writeOperation_30))) (by simp [xm_stk, xv_cat, xc_int, xc_long, xc_float, xc_double, xc_ref]) ha1 (xh_is_of e0 cc0) (fun Q X hQ => K_X9_property hG a1 3 _ e1 hQ) ?_
          obtain ⟨a160, ha160, e⟩ := e
          obtain ⟨_, e0, e⟩ := e
          obtain ⟨m161, m162, ⟨em1, em2⟩, e⟩ := e
          refine xw_tvr1 (o := v157) (show xm_Imp g Γ 33 (xi_vir g 14 M_J5_append_2 11 1 36) from xs_invV hG hΓ k_J5_append_2 rfl (ci := 14) rfl q1796 q598 q599 dX1_writeOperation_33) (by simp [xm_stk, xv_cat, xc_int, xc_long, xc_float, xc_double, xc_ref]) ha160 e0 em1 em2 (K_J5_append_2 hG a160 v159 _ _ _ e) (fun v164 h163 e => ?_)
          refine xw_psh (v := (.int (32))) (show xm_Imp g Γ 36 (xi_psh (.int (32)) 38) from xs_bipush hΓ dX1_writeOperation_36 (by decide)) ?_
          obtain ⟨a165, ha165, e⟩ := e
          obtain ⟨_, e0, e⟩ := e
          obtain ⟨m166, m167, ⟨em1, em2⟩, e⟩ := e
          refine xw_tvr1 (o := v164) (show xm_Imp g Γ 38 (xi_vir g 14 M_J5_append 11 1 41) from xs_invV hG hΓ k_J5_append rfl (ci := 14) rfl q1797 q420 q421 dX1_writeOperation_38) (by simp [xm_stk, xv_cat, xc_int, xc_long, xc_float, xc_double, xc_ref]) ha165 e0 em1 em2 (K_J5_append hG a165 32 _ _ _ e) (fun v169 h168 e => ?_)
          refine xw_pop (show xm_Imp g Γ 41 (xi_pop 42) from xs_pop hΓ dX1_writeOperation_41) (xm_c1_rf v169) ?_
          exact hB_42 _ _ _ _ _ e
        rw [if_neg cc0] at e
        by_cases cc1 : c158 = 8
        · rw [if_pos cc1] at e
          obtain ⟨v170, e1, e⟩ := e
          refine xw_hv1 (o := p1) (xm_or2 (show xm_Imp g Γ 30 (xi_or (xi_vir g 7 M_X9_property 2 1 33) (xi_vir g 8 M_X10_property 1 1 33)) from xs_or (xs_invA hG hΓ (owner := "StringTableau$Operation") k_X9_property rfl (ci := 7) rfl q1781 q1783 q1788 q1787 q1782 ⟨by decide, by decide⟩ (by decide +kernel) dX1_writeOperation_30) (xs_invA hG hΓ (owner := "StringTableau$Operation") k_X10_property rfl (ci := 8) rfl q1781 q1783 q1785 q1784 q1782 ⟨by decide, by decide⟩ (by decide +kernel) dX1_writeOperation_30))) (by simp [xm_stk, xv_cat, xc_int, xc_long, xc_float, xc_double, xc_ref]) ha1 (xh_is_of e0 cc1) (fun Q X hQ => K_X10_property hG a1 3 _ e1 hQ) ?_
          obtain ⟨a171, ha171, e⟩ := e
          obtain ⟨_, e0, e⟩ := e
          obtain ⟨m172, m173, ⟨em1, em2⟩, e⟩ := e
          refine xw_tvr1 (o := v157) (show xm_Imp g Γ 33 (xi_vir g 14 M_J5_append_2 11 1 36) from xs_invV hG hΓ k_J5_append_2 rfl (ci := 14) rfl q1796 q598 q599 dX1_writeOperation_33) (by simp [xm_stk, xv_cat, xc_int, xc_long, xc_float, xc_double, xc_ref]) ha171 e0 em1 em2 (K_J5_append_2 hG a171 v170 _ _ _ e) (fun v175 h174 e => ?_)
          refine xw_psh (v := (.int (32))) (show xm_Imp g Γ 36 (xi_psh (.int (32)) 38) from xs_bipush hΓ dX1_writeOperation_36 (by decide)) ?_
          obtain ⟨a176, ha176, e⟩ := e
          obtain ⟨_, e0, e⟩ := e
          obtain ⟨m177, m178, ⟨em1, em2⟩, e⟩ := e
          refine xw_tvr1 (o := v175) (show xm_Imp g Γ 38 (xi_vir g 14 M_J5_append 11 1 41) from xs_invV hG hΓ k_J5_append rfl (ci := 14) rfl q1797 q420 q421 dX1_writeOperation_38) (by simp [xm_stk, xv_cat, xc_int, xc_long, xc_float, xc_double, xc_ref]) ha176 e0 em1 em2 (K_J5_append hG a176 32 _ _ _ e) (fun v180 h179 e => ?_)
          refine xw_pop (show xm_Imp g Γ 41 (xi_pop 42) from xs_pop hΓ dX1_writeOperation_41) (xm_c1_rf v180) ?_
          exact hB_42 _ _ _ _ _ e
        rw [if_neg cc1] at e
        exact e.elim
  rw [if_neg cc0] at e
  by_cases cc1 : c2 = 8
  · rw [if_pos cc1] at e
    obtain ⟨v181, e1, e⟩ := e
    refine xw_hv1 (o := p1) (xm_or2 (show xm_Imp g Γ 2 (xi_or (xi_vir g 7 M_X9_property 2 1 5) (xi_vir g 8 M_X10_property 1 1 5)) from xs_or (xs_invA hG hΓ (owner := "StringTableau$Operation") k_X9_property rfl (ci := 7) rfl q1781 q1783 q1788 q1787 q1782 ⟨by decide, by decide⟩ (by decide +kernel) dX1_writeOperation_2) (xs_invA hG hΓ (owner := "StringTableau$Operation") k_X10_property rfl (ci := 8) rfl q1781 q1783 q1785 q1784 q1782 ⟨by decide, by decide⟩ (by decide +kernel) dX1_writeOperation_2))) (by simp [xm_stk, xv_cat, xc_int, xc_long, xc_float, xc_double, xc_ref]) ha1 (xh_is_of e0 cc1) (fun Q X hQ => K_X10_property hG a1 3 _ e1 hQ) ?_
    refine xw_psh (v := (.int (-1))) (show xm_Imp g Γ 5 (xi_psh (.int (-1)) 6) from xs_iconst hΓ dX1_writeOperation_5 (by decide)) ?_
    refine xw_ic (show xm_Imp g Γ 6 (xi_ic (fun x y => x = y) 42 9) from xs_icmp_eq hΓ dX1_writeOperation_6 (by decide)) (fun c => ?_) (fun c => ?_)
    · rw [if_pos c] at e
      exact hB_42 _ _ _ _ _ e
    · rw [if_neg c] at e
      refine xw_aldo (x := p1) (show xm_Imp g Γ 9 (xi_ald 1 10) from xs_aload_n hΓ dX1_writeOperation_9) rfl ?_
      obtain ⟨v182, e1, e⟩ := e
      refine xw_gi2 (o := p1) (xm_or1 (show xm_Imp g Γ 10 (xi_or (xi_get 7 0 13) (xi_get 8 0 13)) from xs_or (xs_getN hG hΓ (ci := 7) (kf := 0) rfl (Nat.le_of_ble_eq_true rfl) q1002 dX1_writeOperation_10) (xs_getN hG hΓ (ci := 8) (kf := 0) rfl (Nat.le_of_ble_eq_true rfl) q1002 dX1_writeOperation_10))) (xm_or2 (show xm_Imp g Γ 10 (xi_or (xi_get 7 0 13) (xi_get 8 0 13)) from xs_or (xs_getN hG hΓ (ci := 7) (kf := 0) rfl (Nat.le_of_ble_eq_true rfl) q1002 dX1_writeOperation_10) (xs_getN hG hΓ (ci := 8) (kf := 0) rfl (Nat.le_of_ble_eq_true rfl) q1002 dX1_writeOperation_10))) ha1 e1 ?_
      refine xw_psh (v := (.int (9))) (show xm_Imp g Γ 13 (xi_psh (.int (9)) 15) from xs_bipush hΓ dX1_writeOperation_13 (by decide)) ?_
      refine xw_ic (show xm_Imp g Γ 15 (xi_ic (fun x y => x = y) 42 18) from xs_icmp_eq hΓ dX1_writeOperation_15 (by decide)) (fun c => ?_) (fun c => ?_)
      · rw [if_pos c] at e
        exact hB_42 _ _ _ _ _ e
      · rw [if_neg c] at e
        refine xw_ald (show xm_Imp g Γ 18 (xi_ald 0 19) from xs_aload_n hΓ dX1_writeOperation_18) rfl ?_
        obtain ⟨v183, e1, e⟩ := e
        refine xw_gr1 (o := (some p0)) (show xm_Imp g Γ 19 (xi_get 0 8 22) from xs_get hG hΓ (ci := 0) (kf := 8) rfl (Nat.le_of_ble_eq_true rfl) q355 dX1_writeOperation_19) rfl e1 ?_
        refine xw_psh (v := (.ref (xm_sa g "StringTableau" 429))) (show xm_Imp g Γ 22 (xi_psh (.ref (xm_sa g "StringTableau" 429)) 25) from xs_ldSw hG hΓ q1794 dX1_writeOperation_22) ?_
        obtain ⟨a184, ha184, e⟩ := e
        obtain ⟨_, e0, e⟩ := e
        obtain ⟨m185, m186, ⟨em1, em2⟩, e⟩ := e
        refine xw_tvr1 (o := v183) (show xm_Imp g Γ 25 (xi_vir g 14 M_J5_append_3 12 1 28) from xs_invV hG hΓ k_J5_append_3 rfl (ci := 14) rfl q1795 q633 q634 dX1_writeOperation_25) (by simp [xm_stk, xv_cat, xc_int, xc_long, xc_float, xc_double, xc_ref]) ha184 e0 em1 em2 (K_J5_append_3 hG a184 (some (xm_sa g "StringTableau" 429)) _ _ _ e) (fun v188 h187 e => ?_)
        refine xw_aldo (x := p1) (show xm_Imp g Γ 28 (xi_ald 1 29) from xs_aload_n hΓ dX1_writeOperation_28) rfl ?_
        refine xw_psh (v := (.int (3))) (show xm_Imp g Γ 29 (xi_psh (.int (3)) 30) from xs_iconst hΓ dX1_writeOperation_29 (by decide)) ?_
        obtain ⟨c189, e0, e⟩ := e
        by_cases cc0 : c189 = 7
        · rw [if_pos cc0] at e
          obtain ⟨v190, e1, e⟩ := e
          refine xw_hv1 (o := p1) (xm_or1 (show xm_Imp g Γ 30 (xi_or (xi_vir g 7 M_X9_property 2 1 33) (xi_vir g 8 M_X10_property 1 1 33)) from xs_or (xs_invA hG hΓ (owner := "StringTableau$Operation") k_X9_property rfl (ci := 7) rfl q1781 q1783 q1788 q1787 q1782 ⟨by decide, by decide⟩ (by decide +kernel) dX1_writeOperation_30) (xs_invA hG hΓ (owner := "StringTableau$Operation") k_X10_property rfl (ci := 8) rfl q1781 q1783 q1785 q1784 q1782 ⟨by decide, by decide⟩ (by decide +kernel) dX1_writeOperation_30))) (by simp [xm_stk, xv_cat, xc_int, xc_long, xc_float, xc_double, xc_ref]) ha1 (xh_is_of e0 cc0) (fun Q X hQ => K_X9_property hG a1 3 _ e1 hQ) ?_
          obtain ⟨a191, ha191, e⟩ := e
          obtain ⟨_, e0, e⟩ := e
          obtain ⟨m192, m193, ⟨em1, em2⟩, e⟩ := e
          refine xw_tvr1 (o := v188) (show xm_Imp g Γ 33 (xi_vir g 14 M_J5_append_2 11 1 36) from xs_invV hG hΓ k_J5_append_2 rfl (ci := 14) rfl q1796 q598 q599 dX1_writeOperation_33) (by simp [xm_stk, xv_cat, xc_int, xc_long, xc_float, xc_double, xc_ref]) ha191 e0 em1 em2 (K_J5_append_2 hG a191 v190 _ _ _ e) (fun v195 h194 e => ?_)
          refine xw_psh (v := (.int (32))) (show xm_Imp g Γ 36 (xi_psh (.int (32)) 38) from xs_bipush hΓ dX1_writeOperation_36 (by decide)) ?_
          obtain ⟨a196, ha196, e⟩ := e
          obtain ⟨_, e0, e⟩ := e
          obtain ⟨m197, m198, ⟨em1, em2⟩, e⟩ := e
          refine xw_tvr1 (o := v195) (show xm_Imp g Γ 38 (xi_vir g 14 M_J5_append 11 1 41) from xs_invV hG hΓ k_J5_append rfl (ci := 14) rfl q1797 q420 q421 dX1_writeOperation_38) (by simp [xm_stk, xv_cat, xc_int, xc_long, xc_float, xc_double, xc_ref]) ha196 e0 em1 em2 (K_J5_append hG a196 32 _ _ _ e) (fun v200 h199 e => ?_)
          refine xw_pop (show xm_Imp g Γ 41 (xi_pop 42) from xs_pop hΓ dX1_writeOperation_41) (xm_c1_rf v200) ?_
          exact hB_42 _ _ _ _ _ e
        rw [if_neg cc0] at e
        by_cases cc1 : c189 = 8
        · rw [if_pos cc1] at e
          obtain ⟨v201, e1, e⟩ := e
          refine xw_hv1 (o := p1) (xm_or2 (show xm_Imp g Γ 30 (xi_or (xi_vir g 7 M_X9_property 2 1 33) (xi_vir g 8 M_X10_property 1 1 33)) from xs_or (xs_invA hG hΓ (owner := "StringTableau$Operation") k_X9_property rfl (ci := 7) rfl q1781 q1783 q1788 q1787 q1782 ⟨by decide, by decide⟩ (by decide +kernel) dX1_writeOperation_30) (xs_invA hG hΓ (owner := "StringTableau$Operation") k_X10_property rfl (ci := 8) rfl q1781 q1783 q1785 q1784 q1782 ⟨by decide, by decide⟩ (by decide +kernel) dX1_writeOperation_30))) (by simp [xm_stk, xv_cat, xc_int, xc_long, xc_float, xc_double, xc_ref]) ha1 (xh_is_of e0 cc1) (fun Q X hQ => K_X10_property hG a1 3 _ e1 hQ) ?_
          obtain ⟨a202, ha202, e⟩ := e
          obtain ⟨_, e0, e⟩ := e
          obtain ⟨m203, m204, ⟨em1, em2⟩, e⟩ := e
          refine xw_tvr1 (o := v188) (show xm_Imp g Γ 33 (xi_vir g 14 M_J5_append_2 11 1 36) from xs_invV hG hΓ k_J5_append_2 rfl (ci := 14) rfl q1796 q598 q599 dX1_writeOperation_33) (by simp [xm_stk, xv_cat, xc_int, xc_long, xc_float, xc_double, xc_ref]) ha202 e0 em1 em2 (K_J5_append_2 hG a202 v201 _ _ _ e) (fun v206 h205 e => ?_)
          refine xw_psh (v := (.int (32))) (show xm_Imp g Γ 36 (xi_psh (.int (32)) 38) from xs_bipush hΓ dX1_writeOperation_36 (by decide)) ?_
          obtain ⟨a207, ha207, e⟩ := e
          obtain ⟨_, e0, e⟩ := e
          obtain ⟨m208, m209, ⟨em1, em2⟩, e⟩ := e
          refine xw_tvr1 (o := v206) (show xm_Imp g Γ 38 (xi_vir g 14 M_J5_append 11 1 41) from xs_invV hG hΓ k_J5_append rfl (ci := 14) rfl q1797 q420 q421 dX1_writeOperation_38) (by simp [xm_stk, xv_cat, xc_int, xc_long, xc_float, xc_double, xc_ref]) ha207 e0 em1 em2 (K_J5_append hG a207 32 _ _ _ e) (fun v211 h210 e => ?_)
          refine xw_pop (show xm_Imp g Γ 41 (xi_pop 42) from xs_pop hΓ dX1_writeOperation_41) (xm_c1_rf v211) ?_
          exact hB_42 _ _ _ _ _ e
        rw [if_neg cc1] at e
        exact e.elim
  rw [if_neg cc1] at e
  exact e.elim
