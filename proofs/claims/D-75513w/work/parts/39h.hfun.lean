/-! METHODS ON KNOWN CELLS as functions (printed by gen/mkhfun.py) -/
set_option maxRecDepth 100000
noncomputable def F_X1_makeCanonical (g : xm_G) (p0 : Nat) (h : xm_H) (bc : Nat) (bs : Nat) (Q : Int32 → xm_H → Prop) : Prop :=
 xt_b (xh_fr [(0, 0)] h p0) (fun v1 =>
 xt_b v1 (fun a2 =>
 xt_b (xh_fr [(1, 0)] h a2) (fun v3 =>
 xt_b v3 (fun a4 =>
 xt_b (xh_is 2 h a4) (fun _ =>
 xt_c bc bs (fun m5 m6 => F_X3_canonical g a4 h m5 m6 (fun v8 h7 =>
 xt_b (xh_is 0 h7 p0) (fun _ =>
 xt_c (bc - m5) (bs - m6) (fun m9 m10 => F_X1_replaceRows g p0 v8 h7 m9 m10 (fun v12 h11 =>
 Q v12 h11))))))))))
set_option maxHeartbeats 4000000 in
theorem K_X1_makeCanonical {g : xm_G} (hG : xm_Gw g) (p0 : Nat) (h : xm_H) (bc : Nat) (bs : Nat) {Q : Int32 → xm_H → Prop} (e : F_X1_makeCanonical g p0 h bc bs Q) : xm_Run g M_X1_makeCanonical 14 [.ref p0] h bc bs (fun v h' => ∃ r, v = some (.int r) ∧ Q r h') xm_no := by
  refine xm_Run.of pn_StringTableau (Nat.le_of_ble_eq_true rfl) (fun Γ hΓ => ?_)
  show xm_W g Γ 0 [some (.ref p0)] [] h bc bs
  unfold F_X1_makeCanonical at e
  refine xw_ald (show xm_Imp g Γ 0 (xi_ald 0 1) from xs_aload_n hΓ dX1_makeCanonical_0) rfl ?_
  refine xw_ald (show xm_Imp g Γ 1 (xi_ald 0 2) from xs_aload_n hΓ dX1_makeCanonical_1) rfl ?_
  obtain ⟨v1, e1, e⟩ := e
  refine xw_gr1 (o := (some p0)) (show xm_Imp g Γ 2 (xi_get 0 0 5) from xs_get hG hΓ (ci := 0) (kf := 0) rfl (Nat.le_of_ble_eq_true rfl) q343 dX1_makeCanonical_2) rfl e1 ?_
  obtain ⟨a2, ha2, e⟩ := e
  obtain ⟨v3, e1, e⟩ := e
  refine xw_gr1 (o := v1) (show xm_Imp g Γ 5 (xi_get 1 0 8) from xs_getN hG hΓ (ci := 1) (kf := 0) rfl (Nat.le_of_ble_eq_true rfl) q276 dX1_makeCanonical_5) ha2 e1 ?_
  obtain ⟨a4, ha4, e⟩ := e
  obtain ⟨_, e0, e⟩ := e
  obtain ⟨m5, m6, ⟨em1, em2⟩, e⟩ := e
  refine xw_tvr0 (o := v3) (show xm_Imp g Γ 8 (xi_vir g 2 M_X3_canonical 6 0 11) from xs_invV hG hΓ k_X3_canonical rfl (ci := 2) rfl q1602 q1603 q1604 dX1_makeCanonical_8) (by simp [xm_stk, xv_cat, xc_int, xc_long, xc_float, xc_double, xc_ref]) ha4 e0 em1 em2 (K_X3_canonical hG a4 _ _ _ e) (fun v8 h7 e => ?_)
  obtain ⟨_, e0, e⟩ := e
  obtain ⟨m9, m10, ⟨em1, em2⟩, e⟩ := e
  refine xw_tvi1 (o := (some p0)) (show xm_Imp g Γ 11 (xi_vir g 0 M_X1_replaceRows 13 1 14) from xs_invV hG hΓ k_X1_replaceRows rfl (ci := 0) rfl q1621 q1623 qs35 dX1_makeCanonical_11) rfl rfl e0 em1 em2 (K_X1_replaceRows hG p0 v8 _ _ _ e) (fun v12 h11 e => ?_)
  exact xw_iret (show xm_Imp g Γ 14 (xi_iret .int _) from xs_ireturn hΓ rfl dX1_makeCanonical_14) (xn_int _) ⟨_, rfl, e⟩
noncomputable def F_X12_init (g : xm_G) (p0 : Nat) (p1 : Option Nat) (h : xm_H) : Option (xm_H) :=
 xo_b (xh_w [(10, 1)] h p0 (va_rf p1)) (fun h1 =>
 some h1)
set_option maxHeartbeats 4000000 in
theorem K_X12_init {g : xm_G} (hG : xm_Gw g) (p0 : Nat) (p1 : Option Nat) (h : xm_H) {o : xm_H} (e : F_X12_init g p0 p1 h = some o) {Q : xm_P} {X : xm_X} (hQ : Q none o) : xm_Run g M_X12_init 2 [.ref p0, va_rf p1] h 0 0 Q X := by
  refine xm_Run.of2 (ls := [some (.ref p0), some (va_rf p1)]) pn_StringTableau_Tableau_1 (by cases p1 <;> exact Nat.le_of_ble_eq_true rfl) (by cases p1 <;> rfl) (fun Γ hΓ => ?_)
  obtain ⟨P0, hP0, hp⟩ : ∃ P : xm_H → Prop, (∀ o, P o → Q none o) ∧ P o := ⟨fun o => Q none o, fun _ h => h, hQ⟩
  clear hQ
  show xm_W g Γ 0 [some (.ref p0), some (va_rf p1)] [] h 0 0
  unfold F_X12_init at e
  refine xw_ald (show xm_Imp g Γ 0 (xi_ald 0 1) from xs_aload_n hΓ dX12_init_0) rfl ?_
  refine xw_aldo (x := p1) (show xm_Imp g Γ 1 (xi_ald 1 2) from xs_aload_n hΓ dX12_init_1) rfl ?_
  obtain ⟨h1, e1, e⟩ := xo_b_s e
  refine xw_pt1 (o := (some p0)) (show xm_Imp g Γ 2 (xi_put 10 1 (.object "StringTableau$Tableau") 5) from xs_putF hG hΓ (ci := 10) (kf := 1) rfl (Nat.le_of_ble_eq_true rfl) rfl rfl rfl (by decide +kernel) q1648 dX12_init_2) rfl (xv_fit (Or.inl ⟨_, rfl⟩) p1) e1 ?_
  refine xw_ald (show xm_Imp g Γ 5 (xi_ald 0 6) from xs_aload_n hΓ dX12_init_5) rfl ?_
  refine xw_obj (o := some p0) (show xm_Imp g Γ 6 (xi_obj 9) from xs_obj hG hΓ rfl q1646 dX12_init_6) rfl rfl ?_
  exact xw_vret (show xm_Imp g Γ 9 (xi_vret _) from xs_return hΓ rfl dX12_init_9) (hP0 _ (xl_fin e hp))
noncomputable def F_X3_iterator (g : xm_G) (p0 : Nat) (h : xm_H) (bc : Nat) (bs : Nat) (Q : Option Nat → xm_H → Prop) : Prop :=
 xt_new h bc bs 2 (.inr (10, [.int 0, .null])) (fun a1 h2 b3 b4 =>
 xt_b (F_X12_init g a1 (some p0) h2) (fun v5 =>
 Q (some a1) v5))
set_option maxHeartbeats 4000000 in
theorem K_X3_iterator {g : xm_G} (hG : xm_Gw g) (p0 : Nat) (h : xm_H) (bc : Nat) (bs : Nat) {Q : Option Nat → xm_H → Prop} (e : F_X3_iterator g p0 h bc bs Q) : xm_Run g M_X3_iterator 3 [.ref p0] h bc bs (fun v h' => ∃ r, v = some (va_rf r) ∧ Q r h') xm_no := by
  refine xm_Run.of pn_StringTableau_Tableau (Nat.le_of_ble_eq_true rfl) (fun Γ hΓ => ?_)
  show xm_W g Γ 0 [some (.ref p0)] [] h bc bs
  unfold F_X3_iterator at e
  refine xw_new (show xm_Imp g Γ 0 (xi_new 10 2 [.int 0, .null] 3) from xs_new hG hΓ (ci := 10) rfl q1641 q1642 q158 rfl tyX12 tyX12_ok (xm_df 2 (by decide +kernel)) dX3_iterator_0) e (fun a1 h2 b3 b4 e => ?_)
  refine xw_dup (show xm_Imp g Γ 3 (xi_dup 4) from xs_dup hΓ dX3_iterator_3) rfl ?_
  refine xw_ald (show xm_Imp g Γ 4 (xi_ald 0 5) from xs_aload_n hΓ dX3_iterator_4) rfl ?_
  obtain ⟨v5, e1, e⟩ := e
  refine xw_pu1 (o := (some a1)) (show xm_Imp g Γ 5 (xi_spe g M_X12_init 2 1 8) from xs_invI hG hΓ k_X12_init rfl q1643 q1644 rfl dX3_iterator_5) rfl rfl (fun Q X hQ => K_X12_init hG a1 (some p0) _ e1 hQ) ?_
  exact xw_aret (show xm_Imp g Γ 8 (xi_aret _) from xs_areturn hΓ rfl (Or.inl ⟨_, rfl⟩) dX3_iterator_8) ⟨_, rfl, e⟩
noncomputable def F_X4_weight (g : xm_G) (p0 : Nat) (h : xm_H) : Option (Int32) :=
 xo_b (xh_fi [(3, 0)] h p0) (fun v1 =>
 xo_b (xh_fi [(3, 1)] h p0) (fun v2 =>
 some (F_J17_bitCount (v1 ||| v2))))
set_option maxHeartbeats 4000000 in
theorem K_X4_weight {g : xm_G} (hG : xm_Gw g) (p0 : Nat) (h : xm_H) {o : Int32} (e : F_X4_weight g p0 h = some o) {Q : xm_P} {X : xm_X} (hQ : Q (some (.int o)) h) : xm_Run g M_X4_weight 2 [.ref p0] h 0 0 Q X := by
  refine xm_Run.of pn_StringTableau_Row (Nat.le_of_ble_eq_true rfl) (fun Γ hΓ => ?_)
  obtain ⟨P0, hP0, hp⟩ : ∃ P : Int32 → Prop, (∀ o, P o → Q (some (.int o)) h) ∧ P o := ⟨fun o => Q (some (.int o)) h, fun _ h => h, hQ⟩
  clear hQ
  show xm_W g Γ 0 [some (.ref p0)] [] h 0 0
  unfold F_X4_weight at e
  refine xw_ald (show xm_Imp g Γ 0 (xi_ald 0 1) from xs_aload_n hΓ dX4_weight_0) rfl ?_
  obtain ⟨v1, e1, e⟩ := xo_b_s e
  refine xw_gi1 (o := (some p0)) (show xm_Imp g Γ 1 (xi_get 3 0 4) from xs_get hG hΓ (ci := 3) (kf := 0) rfl (Nat.le_of_ble_eq_true rfl) q246 dX4_weight_1) rfl e1 ?_
  refine xw_ald (show xm_Imp g Γ 4 (xi_ald 0 5) from xs_aload_n hΓ dX4_weight_4) rfl ?_
  obtain ⟨v2, e1, e⟩ := xo_b_s e
  refine xw_gi1 (o := (some p0)) (show xm_Imp g Γ 5 (xi_get 3 1 8) from xs_get hG hΓ (ci := 3) (kf := 1) rfl (Nat.le_of_ble_eq_true rfl) q251 dX4_weight_5) rfl e1 ?_
  refine xw_ii (show xm_Imp g Γ 8 (xi_ii (fun x y => x ||| y) 9) from xs_ior hΓ dX4_weight_8) ?_
  refine xw_sv1 (show xm_Imp g Γ 9 (xi_inv g M_J17_bitCount 1 1 12) from xs_invS hG hΓ k_J17_bitCount rfl q1663 q1210 dX4_weight_9) rfl (fun Q X hQ => K_J17_bitCount hG (v1 ||| v2) rfl hQ) ?_
  have hq := hP0 _ (xl_fin e hp)
  exact xw_iret (show xm_Imp g Γ 12 (xi_iret .int _) from xs_ireturn hΓ rfl dX4_weight_12) (xn_int _) hq
noncomputable def B_X1_weights_45 (g : xm_G) (l1 : Int32) (l2 : Int32) (l3 : Option Nat) (h : xm_H) (bc : Nat) (bs : Nat) (k13 : Int32 × xm_H × Nat × Nat → Prop) (Q : Int32 → xm_H → Prop) : Prop :=
 k13 (l2, h, bc, bs)
noncomputable def D_X1_weights_13 (g : xm_G) (l1 : Int32) (l3 : Option Nat) (Q : Int32 → xm_H → Prop) (k13 : Int32 × xm_H × Nat × Nat → Prop) (s : Int32 × xm_H × Nat × Nat) : Prop :=
 xt_b l3 (fun a9 =>
 xt_b (xh_ci s.2.1 a9) (fun c10 =>
 (if c10 = 10 then
 xt_b (F_X12_hasNext g a9 s.2.1) (fun v11 =>
 (if v11 = 0 then
 Q s.1 s.2.1 else
 xt_b (xh_ci s.2.1 a9) (fun c12 =>
 (if c12 = 10 then
 xt_c s.2.2.1 s.2.2.2 (fun m13 m14 => F_X12_next g a9 s.2.1 m13 m14 (fun v16 h15 =>
 xt_b (xh_cast "StringTableau$Row" h15 v16) (fun _ =>
 xt_b v16 (fun a17 =>
 xt_b (xh_is 3 h15 a17) (fun _ =>
 xt_b (F_X4_weight g a17 h15) (fun v18 =>
 B_X1_weights_45 g l1 (if v18 = l1 then s.1 + 1 else s.1) l3 h15 (s.2.2.1 - m13) (s.2.2.2 - m14) k13 Q)))))) else
 (if c12 = 16 then
 xt_b (F_J23_next g a9 s.2.1) (fun v19 =>
 xt_b (xh_cast "StringTableau$Row" v19.2 v19.1) (fun _ =>
 xt_b v19.1 (fun a20 =>
 xt_b (xh_is 3 v19.2 a20) (fun _ =>
 xt_b (F_X4_weight g a20 v19.2) (fun v21 =>
 B_X1_weights_45 g l1 (if v21 = l1 then s.1 + 1 else s.1) l3 v19.2 s.2.2.1 s.2.2.2 k13 Q))))) else
 False))))) else
 (if c10 = 16 then
 xt_b (F_J23_hasNext g a9 s.2.1) (fun v22 =>
 (if v22 = 0 then
 Q s.1 s.2.1 else
 xt_b (xh_ci s.2.1 a9) (fun c23 =>
 (if c23 = 10 then
 xt_c s.2.2.1 s.2.2.2 (fun m24 m25 => F_X12_next g a9 s.2.1 m24 m25 (fun v27 h26 =>
 xt_b (xh_cast "StringTableau$Row" h26 v27) (fun _ =>
 xt_b v27 (fun a28 =>
 xt_b (xh_is 3 h26 a28) (fun _ =>
 xt_b (F_X4_weight g a28 h26) (fun v29 =>
 B_X1_weights_45 g l1 (if v29 = l1 then s.1 + 1 else s.1) l3 h26 (s.2.2.1 - m24) (s.2.2.2 - m25) k13 Q)))))) else
 (if c23 = 16 then
 xt_b (F_J23_next g a9 s.2.1) (fun v30 =>
 xt_b (xh_cast "StringTableau$Row" v30.2 v30.1) (fun _ =>
 xt_b v30.1 (fun a31 =>
 xt_b (xh_is 3 v30.2 a31) (fun _ =>
 xt_b (F_X4_weight g a31 v30.2) (fun v32 =>
 B_X1_weights_45 g l1 (if v32 = l1 then s.1 + 1 else s.1) l3 v30.2 s.2.2.1 s.2.2.2 k13 Q))))) else
 False))))) else
 False))))
noncomputable def L_X1_weights_13 (g : xm_G) (l1 : Int32) (l3 : Option Nat) (Q : Int32 → xm_H → Prop) (s : Int32 × xm_H × Nat × Nat) : Prop := xt_loop (D_X1_weights_13 g l1 l3 Q) s
noncomputable def F_X1_weights (g : xm_G) (p0 : Nat) (p1 : Int32) (h : xm_H) (bc : Nat) (bs : Nat) (Q : Int32 → xm_H → Prop) : Prop :=
 xt_b (xh_fr [(0, 0)] h p0) (fun v1 =>
 xt_b v1 (fun a2 =>
 xt_b (xh_fr [(1, 0)] h a2) (fun v3 =>
 xt_b v3 (fun a4 =>
 xt_b (xh_is 2 h a4) (fun _ =>
 xt_c bc bs (fun m5 m6 => F_X3_iterator g a4 h m5 m6 (fun v8 h7 =>
 L_X1_weights_13 g p1 v8 Q (0, h7, (bc - m5), (bs - m6)))))))))
set_option maxHeartbeats 4000000 in
theorem K_X1_weights {g : xm_G} (hG : xm_Gw g) (p0 : Nat) (p1 : Int32) (h : xm_H) (bc : Nat) (bs : Nat) {Q : Int32 → xm_H → Prop} (e : F_X1_weights g p0 p1 h bc bs Q) : xm_Run g M_X1_weights 10 [.ref p0, .int p1] h bc bs (fun v h' => ∃ r, v = some (.int r) ∧ Q r h') xm_no := by
  refine xm_Run.of pn_StringTableau (Nat.le_of_ble_eq_true rfl) (fun Γ hΓ => ?_)
  show xm_W g Γ 0 [some (.ref p0), some (.int p1), none, none, none] [] h bc bs
  have hL_13 : ∀ (l1 : Int32) (l3 : Option Nat) (s : Int32 × xm_H × Nat × Nat), L_X1_weights_13 g l1 l3 Q s → xm_W g Γ 13 [none, some (.int l1), some (.int s.1), some (va_rf l3), none] [] s.2.1 s.2.2.1 s.2.2.2 := by
    intro l1 l3
    refine xt_rule (WS := fun s : Int32 × xm_H × Nat × Nat => xm_W g Γ 13 [none, some (.int l1), some (.int s.1), some (va_rf l3), none] [] s.2.1 s.2.2.1 s.2.2.2) ?_
    intro k13 hk13 s e
    have hB_45 : ∀ (l2 : Int32) (h : xm_H) (bc : Nat) (bs : Nat), B_X1_weights_45 g l1 l2 l3 h bc bs k13 Q → xm_W g Γ 45 [none, some (.int l1), some (.int l2), some (va_rf l3), none] [] h bc bs := by
      intro l2 h bc bs e
      unfold B_X1_weights_45 at e
      refine xw_goto (show xm_Imp g Γ 45 (xi_goto 13) from xs_goto hΓ dX1_weights_45 (by decide)) ?_
      have hq := hk13 _ e; exact hq
    unfold D_X1_weights_13 at e
    refine xw_aldo (x := l3) (show xm_Imp g Γ 13 (xi_ald 3 14) from xs_aload_n hΓ dX1_weights_13) rfl ?_
    obtain ⟨a9, ha9, e⟩ := e
    obtain ⟨c10, e0, e⟩ := e
    by_cases cc0 : c10 = 10
    · rw [if_pos cc0] at e
      obtain ⟨v11, e1, e⟩ := e
      refine xw_hv0 (o := l3) (xm_or1 (show xm_Imp g Γ 14 (xi_or (xi_vir g 10 M_X12_hasNext 1 0 19) (xi_vir g 16 M_J23_hasNext 1 0 19)) from xs_or (xs_invF hG hΓ k_X12_hasNext rfl (ci := 10) rfl q1655 q1401 q1399 ⟨by decide, by decide⟩ (by decide +kernel) q1397 q1396 q1402 q1400 q1398 dX1_weights_14) (xs_invF hG hΓ k_J23_hasNext rfl (ci := 16) rfl q1655 q1407 q1405 ⟨by decide, by decide⟩ (by decide +kernel) q1397 q1396 q1408 q1406 q1404 dX1_weights_14))) (by simp [xm_stk, xv_cat, xc_int, xc_long, xc_float, xc_double, xc_ref]) ha9 (xh_is_of e0 cc0) (fun Q X hQ => K_X12_hasNext hG a9 _ e1 hQ) ?_
      refine xw_if (show xm_Imp g Γ 19 (xi_if (fun x => x = 0) 48 22) from xs_if_eq hΓ dX1_weights_19 (by decide)) (fun c => ?_) (fun c => ?_)
      · rw [if_pos c] at e
        refine xw_ild (show xm_Imp g Γ 48 (xi_ild 2 49) from xs_iload_n hΓ dX1_weights_48) rfl ?_
        exact xw_iret (show xm_Imp g Γ 49 (xi_iret .int _) from xs_ireturn hΓ rfl dX1_weights_49) (xn_int _) ⟨_, rfl, e⟩
      · rw [if_neg c] at e
        refine xw_aldo (x := l3) (show xm_Imp g Γ 22 (xi_ald 3 23) from xs_aload_n hΓ dX1_weights_22) rfl ?_
        obtain ⟨c12, e0, e⟩ := e
        by_cases cc0 : c12 = 10
        · rw [if_pos cc0] at e
          obtain ⟨m13, m14, ⟨em1, em2⟩, e⟩ := e
          refine xw_tvr0 (o := l3) (xm_or1 (show xm_Imp g Γ 23 (xi_or (xi_vir g 10 M_X12_next 9 0 28) (xi_vir g 16 M_J23_next 9 0 28)) from xs_or (xs_invF hG hΓ k_X12_next rfl (ci := 10) rfl q1657 q1416 q1414 ⟨by decide, by decide⟩ (by decide +kernel) q1413 q1412 q1417 q1415 q1398 dX1_weights_23) (xs_invF hG hΓ k_J23_next rfl (ci := 16) rfl q1657 q1448 q1446 ⟨by decide, by decide⟩ (by decide +kernel) q1413 q1412 q1449 q1447 q1404 dX1_weights_23))) (by simp [xm_stk, xv_cat, xc_int, xc_long, xc_float, xc_double, xc_ref]) ha9 (xh_is_of e0 cc0) em1 em2 (K_X12_next hG a9 _ _ _ e) (fun v16 h15 e => ?_)
          obtain ⟨_, e1, e⟩ := e
          refine xw_cast (o := v16) (show xm_Imp g Γ 28 (xi_cast "StringTableau$Row" 31) from xs_cast hG hΓ (xm_in 3 rfl) q1658 dX1_weights_28) e1 ?_
          refine xw_asto (x := v16) (ls' := [none, some (.int l1), some (.int s.1), some (va_rf l3), some (va_rf v16)]) (show xm_Imp g Γ 31 (xi_ast 4 33) from xs_astore hΓ dX1_weights_31 (Nat.le_of_ble_eq_true rfl)) ((xm_s1_o (o := l3) rfl).trans rfl) ?_
          refine xw_aldo (x := v16) (show xm_Imp g Γ 33 (xi_ald 4 35) from xs_aload hΓ dX1_weights_33) rfl ?_
          obtain ⟨a17, ha17, e⟩ := e
          obtain ⟨_, e0, e⟩ := e
          obtain ⟨v18, e1, e⟩ := e
          refine xw_hv0 (o := v16) (show xm_Imp g Γ 35 (xi_vir g 3 M_X4_weight 2 0 38) from xs_invV hG hΓ k_X4_weight rfl (ci := 3) rfl q1659 q1660 q1661 dX1_weights_35) (by simp [xm_stk, xv_cat, xc_int, xc_long, xc_float, xc_double, xc_ref]) ha17 e0 (fun Q X hQ => K_X4_weight hG a17 _ e1 hQ) ?_
          refine xw_ild (show xm_Imp g Γ 38 (xi_ild 1 39) from xs_iload_n hΓ dX1_weights_38) rfl ?_
          refine xw_ic (show xm_Imp g Γ 39 (xi_ic (fun x y => x = y) 42 45) from xs_icmp_ne hΓ dX1_weights_39 (by decide)) (fun c => ?_) (fun c => ?_)
          · rw [if_pos c] at e
            refine xw_inc (v := (1)) (ls' := [none, some (.int l1), some (.int (s.1 + 1)), some (va_rf l3), some (va_rf v16)]) (show xm_Imp g Γ 42 (xi_inc 2 (1) 45) from xs_iinc hΓ dX1_weights_42 (by decide) (Nat.le_of_ble_eq_true rfl)) rfl rfl ?_
            exact xm_lx (hB_45 _ _ _ _ e) (And.intro rfl (And.intro rfl (And.intro rfl (trivial))))
          · rw [if_neg c] at e
            exact xm_lx (hB_45 _ _ _ _ e) (And.intro rfl (And.intro rfl (And.intro rfl (trivial))))
        rw [if_neg cc0] at e
        by_cases cc1 : c12 = 16
        · rw [if_pos cc1] at e
          obtain ⟨v19, e1, e⟩ := e
          refine xw_hv0 (o := l3) (xm_or2 (show xm_Imp g Γ 23 (xi_or (xi_vir g 10 M_X12_next 9 0 28) (xi_vir g 16 M_J23_next 9 0 28)) from xs_or (xs_invF hG hΓ k_X12_next rfl (ci := 10) rfl q1657 q1416 q1414 ⟨by decide, by decide⟩ (by decide +kernel) q1413 q1412 q1417 q1415 q1398 dX1_weights_23) (xs_invF hG hΓ k_J23_next rfl (ci := 16) rfl q1657 q1448 q1446 ⟨by decide, by decide⟩ (by decide +kernel) q1413 q1412 q1449 q1447 q1404 dX1_weights_23))) (by simp [xm_stk, xv_cat, xc_int, xc_long, xc_float, xc_double, xc_ref]) ha9 (xh_is_of e0 cc1) (fun Q X hQ => K_J23_next hG a9 _ e1 hQ) ?_
          obtain ⟨_, e1, e⟩ := e
          refine xw_cast (o := v19.1) (show xm_Imp g Γ 28 (xi_cast "StringTableau$Row" 31) from xs_cast hG hΓ (xm_in 3 rfl) q1658 dX1_weights_28) e1 ?_
          refine xw_asto (x := v19.1) (ls' := [none, some (.int l1), some (.int s.1), some (va_rf l3), some (va_rf v19.1)]) (show xm_Imp g Γ 31 (xi_ast 4 33) from xs_astore hΓ dX1_weights_31 (Nat.le_of_ble_eq_true rfl)) ((xm_s1_o (o := l3) rfl).trans rfl) ?_
          refine xw_aldo (x := v19.1) (show xm_Imp g Γ 33 (xi_ald 4 35) from xs_aload hΓ dX1_weights_33) rfl ?_
          obtain ⟨a20, ha20, e⟩ := e
          obtain ⟨_, e0, e⟩ := e
          obtain ⟨v21, e1, e⟩ := e
          refine xw_hv0 (o := v19.1) (show xm_Imp g Γ 35 (xi_vir g 3 M_X4_weight 2 0 38) from xs_invV hG hΓ k_X4_weight rfl (ci := 3) rfl q1659 q1660 q1661 dX1_weights_35) (by simp [xm_stk, xv_cat, xc_int, xc_long, xc_float, xc_double, xc_ref]) ha20 e0 (fun Q X hQ => K_X4_weight hG a20 _ e1 hQ) ?_
          refine xw_ild (show xm_Imp g Γ 38 (xi_ild 1 39) from xs_iload_n hΓ dX1_weights_38) rfl ?_
          refine xw_ic (show xm_Imp g Γ 39 (xi_ic (fun x y => x = y) 42 45) from xs_icmp_ne hΓ dX1_weights_39 (by decide)) (fun c => ?_) (fun c => ?_)
          · rw [if_pos c] at e
            refine xw_inc (v := (1)) (ls' := [none, some (.int l1), some (.int (s.1 + 1)), some (va_rf l3), some (va_rf v19.1)]) (show xm_Imp g Γ 42 (xi_inc 2 (1) 45) from xs_iinc hΓ dX1_weights_42 (by decide) (Nat.le_of_ble_eq_true rfl)) rfl rfl ?_
            exact xm_lx (hB_45 _ _ _ _ e) (And.intro rfl (And.intro rfl (And.intro rfl (trivial))))
          · rw [if_neg c] at e
            exact xm_lx (hB_45 _ _ _ _ e) (And.intro rfl (And.intro rfl (And.intro rfl (trivial))))
        rw [if_neg cc1] at e
        exact e.elim
    rw [if_neg cc0] at e
    by_cases cc1 : c10 = 16
    · rw [if_pos cc1] at e
      obtain ⟨v22, e1, e⟩ := e
      refine xw_hv0 (o := l3) (xm_or2 (show xm_Imp g Γ 14 (xi_or (xi_vir g 10 M_X12_hasNext 1 0 19) (xi_vir g 16 M_J23_hasNext 1 0 19)) from xs_or (xs_invF hG hΓ k_X12_hasNext rfl (ci := 10) rfl q1655 q1401 q1399 ⟨by decide, by decide⟩ (by decide +kernel) q1397 q1396 q1402 q1400 q1398 dX1_weights_14) (xs_invF hG hΓ k_J23_hasNext rfl (ci := 16) rfl q1655 q1407 q1405 ⟨by decide, by decide⟩ (by decide +kernel) q1397 q1396 q1408 q1406 q1404 dX1_weights_14))) (by simp [xm_stk, xv_cat, xc_int, xc_long, xc_float, xc_double, xc_ref]) ha9 (xh_is_of e0 cc1) (fun Q X hQ => K_J23_hasNext hG a9 _ e1 hQ) ?_
      refine xw_if (show xm_Imp g Γ 19 (xi_if (fun x => x = 0) 48 22) from xs_if_eq hΓ dX1_weights_19 (by decide)) (fun c => ?_) (fun c => ?_)
      · rw [if_pos c] at e
        refine xw_ild (show xm_Imp g Γ 48 (xi_ild 2 49) from xs_iload_n hΓ dX1_weights_48) rfl ?_
        exact xw_iret (show xm_Imp g Γ 49 (xi_iret .int _) from xs_ireturn hΓ rfl dX1_weights_49) (xn_int _) ⟨_, rfl, e⟩
      · rw [if_neg c] at e
        refine xw_aldo (x := l3) (show xm_Imp g Γ 22 (xi_ald 3 23) from xs_aload_n hΓ dX1_weights_22) rfl ?_
        obtain ⟨c23, e0, e⟩ := e
        by_cases cc0 : c23 = 10
        · rw [if_pos cc0] at e
          obtain ⟨m24, m25, ⟨em1, em2⟩, e⟩ := e
          refine xw_tvr0 (o := l3) (xm_or1 (show xm_Imp g Γ 23 (xi_or (xi_vir g 10 M_X12_next 9 0 28) (xi_vir g 16 M_J23_next 9 0 28)) from xs_or (xs_invF hG hΓ k_X12_next rfl (ci := 10) rfl q1657 q1416 q1414 ⟨by decide, by decide⟩ (by decide +kernel) q1413 q1412 q1417 q1415 q1398 dX1_weights_23) (xs_invF hG hΓ k_J23_next rfl (ci := 16) rfl q1657 q1448 q1446 ⟨by decide, by decide⟩ (by decide +kernel) q1413 q1412 q1449 q1447 q1404 dX1_weights_23))) (by simp [xm_stk, xv_cat, xc_int, xc_long, xc_float, xc_double, xc_ref]) ha9 (xh_is_of e0 cc0) em1 em2 (K_X12_next hG a9 _ _ _ e) (fun v27 h26 e => ?_)
          obtain ⟨_, e1, e⟩ := e
          refine xw_cast (o := v27) (show xm_Imp g Γ 28 (xi_cast "StringTableau$Row" 31) from xs_cast hG hΓ (xm_in 3 rfl) q1658 dX1_weights_28) e1 ?_
          refine xw_asto (x := v27) (ls' := [none, some (.int l1), some (.int s.1), some (va_rf l3), some (va_rf v27)]) (show xm_Imp g Γ 31 (xi_ast 4 33) from xs_astore hΓ dX1_weights_31 (Nat.le_of_ble_eq_true rfl)) ((xm_s1_o (o := l3) rfl).trans rfl) ?_
          refine xw_aldo (x := v27) (show xm_Imp g Γ 33 (xi_ald 4 35) from xs_aload hΓ dX1_weights_33) rfl ?_
          obtain ⟨a28, ha28, e⟩ := e
          obtain ⟨_, e0, e⟩ := e
          obtain ⟨v29, e1, e⟩ := e
          refine xw_hv0 (o := v27) (show xm_Imp g Γ 35 (xi_vir g 3 M_X4_weight 2 0 38) from xs_invV hG hΓ k_X4_weight rfl (ci := 3) rfl q1659 q1660 q1661 dX1_weights_35) (by simp [xm_stk, xv_cat, xc_int, xc_long, xc_float, xc_double, xc_ref]) ha28 e0 (fun Q X hQ => K_X4_weight hG a28 _ e1 hQ) ?_
          refine xw_ild (show xm_Imp g Γ 38 (xi_ild 1 39) from xs_iload_n hΓ dX1_weights_38) rfl ?_
          refine xw_ic (show xm_Imp g Γ 39 (xi_ic (fun x y => x = y) 42 45) from xs_icmp_ne hΓ dX1_weights_39 (by decide)) (fun c => ?_) (fun c => ?_)
          · rw [if_pos c] at e
            refine xw_inc (v := (1)) (ls' := [none, some (.int l1), some (.int (s.1 + 1)), some (va_rf l3), some (va_rf v27)]) (show xm_Imp g Γ 42 (xi_inc 2 (1) 45) from xs_iinc hΓ dX1_weights_42 (by decide) (Nat.le_of_ble_eq_true rfl)) rfl rfl ?_
            exact xm_lx (hB_45 _ _ _ _ e) (And.intro rfl (And.intro rfl (And.intro rfl (trivial))))
          · rw [if_neg c] at e
            exact xm_lx (hB_45 _ _ _ _ e) (And.intro rfl (And.intro rfl (And.intro rfl (trivial))))
        rw [if_neg cc0] at e
        by_cases cc1 : c23 = 16
        · rw [if_pos cc1] at e
          obtain ⟨v30, e1, e⟩ := e
          refine xw_hv0 (o := l3) (xm_or2 (show xm_Imp g Γ 23 (xi_or (xi_vir g 10 M_X12_next 9 0 28) (xi_vir g 16 M_J23_next 9 0 28)) from xs_or (xs_invF hG hΓ k_X12_next rfl (ci := 10) rfl q1657 q1416 q1414 ⟨by decide, by decide⟩ (by decide +kernel) q1413 q1412 q1417 q1415 q1398 dX1_weights_23) (xs_invF hG hΓ k_J23_next rfl (ci := 16) rfl q1657 q1448 q1446 ⟨by decide, by decide⟩ (by decide +kernel) q1413 q1412 q1449 q1447 q1404 dX1_weights_23))) (by simp [xm_stk, xv_cat, xc_int, xc_long, xc_float, xc_double, xc_ref]) ha9 (xh_is_of e0 cc1) (fun Q X hQ => K_J23_next hG a9 _ e1 hQ) ?_
          obtain ⟨_, e1, e⟩ := e
          refine xw_cast (o := v30.1) (show xm_Imp g Γ 28 (xi_cast "StringTableau$Row" 31) from xs_cast hG hΓ (xm_in 3 rfl) q1658 dX1_weights_28) e1 ?_
          refine xw_asto (x := v30.1) (ls' := [none, some (.int l1), some (.int s.1), some (va_rf l3), some (va_rf v30.1)]) (show xm_Imp g Γ 31 (xi_ast 4 33) from xs_astore hΓ dX1_weights_31 (Nat.le_of_ble_eq_true rfl)) ((xm_s1_o (o := l3) rfl).trans rfl) ?_
          refine xw_aldo (x := v30.1) (show xm_Imp g Γ 33 (xi_ald 4 35) from xs_aload hΓ dX1_weights_33) rfl ?_
          obtain ⟨a31, ha31, e⟩ := e
          obtain ⟨_, e0, e⟩ := e
          obtain ⟨v32, e1, e⟩ := e
          refine xw_hv0 (o := v30.1) (show xm_Imp g Γ 35 (xi_vir g 3 M_X4_weight 2 0 38) from xs_invV hG hΓ k_X4_weight rfl (ci := 3) rfl q1659 q1660 q1661 dX1_weights_35) (by simp [xm_stk, xv_cat, xc_int, xc_long, xc_float, xc_double, xc_ref]) ha31 e0 (fun Q X hQ => K_X4_weight hG a31 _ e1 hQ) ?_
          refine xw_ild (show xm_Imp g Γ 38 (xi_ild 1 39) from xs_iload_n hΓ dX1_weights_38) rfl ?_
          refine xw_ic (show xm_Imp g Γ 39 (xi_ic (fun x y => x = y) 42 45) from xs_icmp_ne hΓ dX1_weights_39 (by decide)) (fun c => ?_) (fun c => ?_)
          · rw [if_pos c] at e
            refine xw_inc (v := (1)) (ls' := [none, some (.int l1), some (.int (s.1 + 1)), some (va_rf l3), some (va_rf v30.1)]) (show xm_Imp g Γ 42 (xi_inc 2 (1) 45) from xs_iinc hΓ dX1_weights_42 (by decide) (Nat.le_of_ble_eq_true rfl)) rfl rfl ?_
            exact xm_lx (hB_45 _ _ _ _ e) (And.intro rfl (And.intro rfl (And.intro rfl (trivial))))
          · rw [if_neg c] at e
            exact xm_lx (hB_45 _ _ _ _ e) (And.intro rfl (And.intro rfl (And.intro rfl (trivial))))
        rw [if_neg cc1] at e
        exact e.elim
    rw [if_neg cc1] at e
    exact e.elim
  unfold F_X1_weights at e
  refine xw_psh (v := (.int (0))) (show xm_Imp g Γ 0 (xi_psh (.int (0)) 1) from xs_iconst hΓ dX1_weights_0 (by decide)) ?_
  refine xw_ist (ls' := [some (.ref p0), some (.int p1), some (.int 0), none, none]) (show xm_Imp g Γ 1 (xi_ist 2 2) from xs_istore_n hΓ dX1_weights_1 (Nat.le_of_ble_eq_true rfl)) rfl ?_
  refine xw_ald (show xm_Imp g Γ 2 (xi_ald 0 3) from xs_aload_n hΓ dX1_weights_2) rfl ?_
  obtain ⟨v1, e1, e⟩ := e
  refine xw_gr1 (o := (some p0)) (show xm_Imp g Γ 3 (xi_get 0 0 6) from xs_get hG hΓ (ci := 0) (kf := 0) rfl (Nat.le_of_ble_eq_true rfl) q343 dX1_weights_3) rfl e1 ?_
  obtain ⟨a2, ha2, e⟩ := e
  obtain ⟨v3, e1, e⟩ := e
  refine xw_gr1 (o := v1) (show xm_Imp g Γ 6 (xi_get 1 0 9) from xs_getN hG hΓ (ci := 1) (kf := 0) rfl (Nat.le_of_ble_eq_true rfl) q276 dX1_weights_6) ha2 e1 ?_
  obtain ⟨a4, ha4, e⟩ := e
  obtain ⟨_, e0, e⟩ := e
  obtain ⟨m5, m6, ⟨em1, em2⟩, e⟩ := e
  refine xw_tvr0 (o := v3) (show xm_Imp g Γ 9 (xi_vir g 2 M_X3_iterator 3 0 12) from xs_invV hG hΓ k_X3_iterator rfl (ci := 2) rfl q1637 q1638 q1639 dX1_weights_9) (by simp [xm_stk, xv_cat, xc_int, xc_long, xc_float, xc_double, xc_ref]) ha4 e0 em1 em2 (K_X3_iterator hG a4 _ _ _ e) (fun v8 h7 e => ?_)
  refine xw_asto (x := v8) (ls' := [some (.ref p0), some (.int p1), some (.int 0), some (va_rf v8), none]) (show xm_Imp g Γ 12 (xi_ast 3 13) from xs_astore_n hΓ dX1_weights_12 (Nat.le_of_ble_eq_true rfl)) rfl ?_
  exact xm_lx (hL_13 _ _ _ e) (And.intro rfl (And.intro rfl (And.intro rfl (trivial))))
noncomputable def D_X3_supports_17 (g : xm_G) (l1 : Option Nat) (l3 : Option Nat) (Q : Option Nat → xm_H → Prop) (k17 : Int32 × xm_H × Nat × Nat → Prop) (s : Int32 × xm_H × Nat × Nat) : Prop :=
 xt_b l3 (fun a13 =>
 xt_b (xh_ci s.2.1 a13) (fun c14 =>
 (if c14 = 10 then
 xt_b (F_X12_hasNext g a13 s.2.1) (fun v15 =>
 (if v15 = 0 then
 Q l1 s.2.1 else
 xt_b (xh_ci s.2.1 a13) (fun c16 =>
 (if c16 = 10 then
 xt_c s.2.2.1 s.2.2.2 (fun m17 m18 => F_X12_next g a13 s.2.1 m17 m18 (fun v20 h19 =>
 xt_b (xh_cast "StringTableau$Row" h19 v20) (fun _ =>
 xt_b v20 (fun a21 =>
 xt_b (xh_fi [(3, 0)] h19 a21) (fun v22 =>
 xt_b (xh_fi [(3, 1)] h19 a21) (fun v23 =>
 xt_b l1 (fun a24 =>
 xt_b (xh_si .int h19 a24 s.1 (v22 ||| v23)) (fun h25 =>
 k17 ((s.1 + 1), h25, (s.2.2.1 - m17), (s.2.2.2 - m18)))))))))) else
 (if c16 = 16 then
 xt_b (F_J23_next g a13 s.2.1) (fun v26 =>
 xt_b (xh_cast "StringTableau$Row" v26.2 v26.1) (fun _ =>
 xt_b v26.1 (fun a27 =>
 xt_b (xh_fi [(3, 0)] v26.2 a27) (fun v28 =>
 xt_b (xh_fi [(3, 1)] v26.2 a27) (fun v29 =>
 xt_b l1 (fun a30 =>
 xt_b (xh_si .int v26.2 a30 s.1 (v28 ||| v29)) (fun h31 =>
 k17 ((s.1 + 1), h31, s.2.2.1, s.2.2.2)))))))) else
 False))))) else
 (if c14 = 16 then
 xt_b (F_J23_hasNext g a13 s.2.1) (fun v32 =>
 (if v32 = 0 then
 Q l1 s.2.1 else
 xt_b (xh_ci s.2.1 a13) (fun c33 =>
 (if c33 = 10 then
 xt_c s.2.2.1 s.2.2.2 (fun m34 m35 => F_X12_next g a13 s.2.1 m34 m35 (fun v37 h36 =>
 xt_b (xh_cast "StringTableau$Row" h36 v37) (fun _ =>
 xt_b v37 (fun a38 =>
 xt_b (xh_fi [(3, 0)] h36 a38) (fun v39 =>
 xt_b (xh_fi [(3, 1)] h36 a38) (fun v40 =>
 xt_b l1 (fun a41 =>
 xt_b (xh_si .int h36 a41 s.1 (v39 ||| v40)) (fun h42 =>
 k17 ((s.1 + 1), h42, (s.2.2.1 - m34), (s.2.2.2 - m35)))))))))) else
 (if c33 = 16 then
 xt_b (F_J23_next g a13 s.2.1) (fun v43 =>
 xt_b (xh_cast "StringTableau$Row" v43.2 v43.1) (fun _ =>
 xt_b v43.1 (fun a44 =>
 xt_b (xh_fi [(3, 0)] v43.2 a44) (fun v45 =>
 xt_b (xh_fi [(3, 1)] v43.2 a44) (fun v46 =>
 xt_b l1 (fun a47 =>
 xt_b (xh_si .int v43.2 a47 s.1 (v45 ||| v46)) (fun h48 =>
 k17 ((s.1 + 1), h48, s.2.2.1, s.2.2.2)))))))) else
 False))))) else
 False))))
noncomputable def L_X3_supports_17 (g : xm_G) (l1 : Option Nat) (l3 : Option Nat) (Q : Option Nat → xm_H → Prop) (s : Int32 × xm_H × Nat × Nat) : Prop := xt_loop (D_X3_supports_17 g l1 l3 Q) s
noncomputable def F_X3_supports (g : xm_G) (p0 : Nat) (h : xm_H) (bc : Nat) (bs : Nat) (Q : Option Nat → xm_H → Prop) : Prop :=
 xt_b (xh_fr [(2, 0)] h p0) (fun v1 =>
 xt_b v1 (fun a2 =>
 xt_b (xh_len h a2) (fun v3 =>
 xt_b (xa_nat (1 <<< (v3 &&& 31))) (fun N8 =>
 xt_new h bc bs N8 (.inl (.int, N8, .inl (fun _ => 0))) (fun a4 h5 b6 b7 =>
 xt_b (xh_is 2 h5 p0) (fun _ =>
 xt_c b6 b7 (fun m9 m10 => F_X3_iterator g p0 h5 m9 m10 (fun v12 h11 =>
 L_X3_supports_17 g (some a4) v12 Q (0, h11, (b6 - m9), (b7 - m10))))))))))
set_option maxHeartbeats 4000000 in
theorem K_X3_supports {g : xm_G} (hG : xm_Gw g) (p0 : Nat) (h : xm_H) (bc : Nat) (bs : Nat) {Q : Option Nat → xm_H → Prop} (e : F_X3_supports g p0 h bc bs Q) : xm_Run g M_X3_supports 10 [.ref p0] h bc bs (fun v h' => ∃ r, v = some (va_rf r) ∧ Q r h') xm_no := by
  refine xm_Run.of pn_StringTableau_Tableau (Nat.le_of_ble_eq_true rfl) (fun Γ hΓ => ?_)
  show xm_W g Γ 0 [some (.ref p0), none, none, none, none] [] h bc bs
  have hL_17 : ∀ (l1 : Option Nat) (l3 : Option Nat) (s : Int32 × xm_H × Nat × Nat), L_X3_supports_17 g l1 l3 Q s → xm_W g Γ 17 [none, some (va_rf l1), some (.int s.1), some (va_rf l3), none] [] s.2.1 s.2.2.1 s.2.2.2 := by
    intro l1 l3
    refine xt_rule (WS := fun s : Int32 × xm_H × Nat × Nat => xm_W g Γ 17 [none, some (va_rf l1), some (.int s.1), some (va_rf l3), none] [] s.2.1 s.2.2.1 s.2.2.2) ?_
    intro k17 hk17 s e
    unfold D_X3_supports_17 at e
    refine xw_aldo (x := l3) (show xm_Imp g Γ 17 (xi_ald 3 18) from xs_aload_n hΓ dX3_supports_17) rfl ?_
    obtain ⟨a13, ha13, e⟩ := e
    obtain ⟨c14, e0, e⟩ := e
    by_cases cc0 : c14 = 10
    · rw [if_pos cc0] at e
      obtain ⟨v15, e1, e⟩ := e
      refine xw_hv0 (o := l3) (xm_or1 (show xm_Imp g Γ 18 (xi_or (xi_vir g 10 M_X12_hasNext 1 0 23) (xi_vir g 16 M_J23_hasNext 1 0 23)) from xs_or (xs_invF hG hΓ k_X12_hasNext rfl (ci := 10) rfl q1674 q1401 q1399 ⟨by decide, by decide⟩ (by decide +kernel) q1397 q1396 q1402 q1400 q1398 dX3_supports_18) (xs_invF hG hΓ k_J23_hasNext rfl (ci := 16) rfl q1674 q1407 q1405 ⟨by decide, by decide⟩ (by decide +kernel) q1397 q1396 q1408 q1406 q1404 dX3_supports_18))) (by simp [xm_stk, xv_cat, xc_int, xc_long, xc_float, xc_double, xc_ref]) ha13 (xh_is_of e0 cc0) (fun Q X hQ => K_X12_hasNext hG a13 _ e1 hQ) ?_
      refine xw_if (show xm_Imp g Γ 23 (xi_if (fun x => x = 0) 57 26) from xs_if_eq hΓ dX3_supports_23 (by decide)) (fun c => ?_) (fun c => ?_)
      · rw [if_pos c] at e
        refine xw_aldo (x := l1) (show xm_Imp g Γ 57 (xi_ald 1 58) from xs_aload_n hΓ dX3_supports_57) rfl ?_
        exact xw_areto (show xm_Imp g Γ 58 (xi_aret _) from xs_areturn hΓ rfl (Or.inr ⟨_, rfl⟩) dX3_supports_58) ⟨_, rfl, e⟩
      · rw [if_neg c] at e
        refine xw_aldo (x := l3) (show xm_Imp g Γ 26 (xi_ald 3 27) from xs_aload_n hΓ dX3_supports_26) rfl ?_
        obtain ⟨c16, e0, e⟩ := e
        by_cases cc0 : c16 = 10
        · rw [if_pos cc0] at e
          obtain ⟨m17, m18, ⟨em1, em2⟩, e⟩ := e
          refine xw_tvr0 (o := l3) (xm_or1 (show xm_Imp g Γ 27 (xi_or (xi_vir g 10 M_X12_next 9 0 32) (xi_vir g 16 M_J23_next 9 0 32)) from xs_or (xs_invF hG hΓ k_X12_next rfl (ci := 10) rfl q1676 q1416 q1414 ⟨by decide, by decide⟩ (by decide +kernel) q1413 q1412 q1417 q1415 q1398 dX3_supports_27) (xs_invF hG hΓ k_J23_next rfl (ci := 16) rfl q1676 q1448 q1446 ⟨by decide, by decide⟩ (by decide +kernel) q1413 q1412 q1449 q1447 q1404 dX3_supports_27))) (by simp [xm_stk, xv_cat, xc_int, xc_long, xc_float, xc_double, xc_ref]) ha13 (xh_is_of e0 cc0) em1 em2 (K_X12_next hG a13 _ _ _ e) (fun v20 h19 e => ?_)
          obtain ⟨_, e1, e⟩ := e
          refine xw_cast (o := v20) (show xm_Imp g Γ 32 (xi_cast "StringTableau$Row" 35) from xs_cast hG hΓ (xm_in 3 rfl) q239 dX3_supports_32) e1 ?_
          refine xw_asto (x := v20) (ls' := [none, some (va_rf l1), some (.int s.1), some (va_rf l3), some (va_rf v20)]) (show xm_Imp g Γ 35 (xi_ast 4 37) from xs_astore hΓ dX3_supports_35 (Nat.le_of_ble_eq_true rfl)) ((xm_s1_o (o := l3) rfl).trans rfl) ?_
          refine xw_aldo (x := l1) (show xm_Imp g Γ 37 (xi_ald 1 38) from xs_aload_n hΓ dX3_supports_37) rfl ?_
          refine xw_ild (show xm_Imp g Γ 38 (xi_ild 2 39) from xs_iload_n hΓ dX3_supports_38) rfl ?_
          refine xw_aldo (x := v20) (show xm_Imp g Γ 39 (xi_ald 4 41) from xs_aload hΓ dX3_supports_39) rfl ?_
          obtain ⟨a21, ha21, e⟩ := e
          obtain ⟨v22, e1, e⟩ := e
          refine xw_gi1 (o := v20) (show xm_Imp g Γ 41 (xi_get 3 0 44) from xs_getN hG hΓ (ci := 3) (kf := 0) rfl (Nat.le_of_ble_eq_true rfl) q249 dX3_supports_41) ha21 e1 ?_
          refine xw_aldo (x := v20) (show xm_Imp g Γ 44 (xi_ald 4 46) from xs_aload hΓ dX3_supports_44) rfl ?_
          obtain ⟨v23, e1, e⟩ := e
          refine xw_gi1 (o := v20) (show xm_Imp g Γ 46 (xi_get 3 1 49) from xs_getN hG hΓ (ci := 3) (kf := 1) rfl (Nat.le_of_ble_eq_true rfl) q254 dX3_supports_46) ha21 e1 ?_
          refine xw_ii (show xm_Imp g Γ 49 (xi_ii (fun x y => x ||| y) 50) from xs_ior hΓ dX3_supports_49) ?_
          obtain ⟨a24, ha24, e⟩ := e
          obtain ⟨h25, e1, e⟩ := e
          refine xw_hias (o := l1) (show xm_Imp g Γ 50 (xi_ias 51) from xs_ias hG hΓ dX3_supports_50) ha24 e1 ?_
          refine xw_inc (v := (1)) (ls' := [none, some (va_rf l1), some (.int (s.1 + 1)), some (va_rf l3), some (va_rf v20)]) (show xm_Imp g Γ 51 (xi_inc 2 (1) 54) from xs_iinc hΓ dX3_supports_51 (by decide) (Nat.le_of_ble_eq_true rfl)) rfl ((xm_s1_o (o := l1) rfl).trans rfl) ?_
          refine xw_goto (show xm_Imp g Γ 54 (xi_goto 17) from xs_goto hΓ dX3_supports_54 (by decide)) ?_
          have hq := hk17 _ e; exact xm_lx (hq) (And.intro rfl (And.intro rfl (And.intro rfl (trivial))))
        rw [if_neg cc0] at e
        by_cases cc1 : c16 = 16
        · rw [if_pos cc1] at e
          obtain ⟨v26, e1, e⟩ := e
          refine xw_hv0 (o := l3) (xm_or2 (show xm_Imp g Γ 27 (xi_or (xi_vir g 10 M_X12_next 9 0 32) (xi_vir g 16 M_J23_next 9 0 32)) from xs_or (xs_invF hG hΓ k_X12_next rfl (ci := 10) rfl q1676 q1416 q1414 ⟨by decide, by decide⟩ (by decide +kernel) q1413 q1412 q1417 q1415 q1398 dX3_supports_27) (xs_invF hG hΓ k_J23_next rfl (ci := 16) rfl q1676 q1448 q1446 ⟨by decide, by decide⟩ (by decide +kernel) q1413 q1412 q1449 q1447 q1404 dX3_supports_27))) (by simp [xm_stk, xv_cat, xc_int, xc_long, xc_float, xc_double, xc_ref]) ha13 (xh_is_of e0 cc1) (fun Q X hQ => K_J23_next hG a13 _ e1 hQ) ?_
          obtain ⟨_, e1, e⟩ := e
          refine xw_cast (o := v26.1) (show xm_Imp g Γ 32 (xi_cast "StringTableau$Row" 35) from xs_cast hG hΓ (xm_in 3 rfl) q239 dX3_supports_32) e1 ?_
          refine xw_asto (x := v26.1) (ls' := [none, some (va_rf l1), some (.int s.1), some (va_rf l3), some (va_rf v26.1)]) (show xm_Imp g Γ 35 (xi_ast 4 37) from xs_astore hΓ dX3_supports_35 (Nat.le_of_ble_eq_true rfl)) ((xm_s1_o (o := l3) rfl).trans rfl) ?_
          refine xw_aldo (x := l1) (show xm_Imp g Γ 37 (xi_ald 1 38) from xs_aload_n hΓ dX3_supports_37) rfl ?_
          refine xw_ild (show xm_Imp g Γ 38 (xi_ild 2 39) from xs_iload_n hΓ dX3_supports_38) rfl ?_
          refine xw_aldo (x := v26.1) (show xm_Imp g Γ 39 (xi_ald 4 41) from xs_aload hΓ dX3_supports_39) rfl ?_
          obtain ⟨a27, ha27, e⟩ := e
          obtain ⟨v28, e1, e⟩ := e
          refine xw_gi1 (o := v26.1) (show xm_Imp g Γ 41 (xi_get 3 0 44) from xs_getN hG hΓ (ci := 3) (kf := 0) rfl (Nat.le_of_ble_eq_true rfl) q249 dX3_supports_41) ha27 e1 ?_
          refine xw_aldo (x := v26.1) (show xm_Imp g Γ 44 (xi_ald 4 46) from xs_aload hΓ dX3_supports_44) rfl ?_
          obtain ⟨v29, e1, e⟩ := e
          refine xw_gi1 (o := v26.1) (show xm_Imp g Γ 46 (xi_get 3 1 49) from xs_getN hG hΓ (ci := 3) (kf := 1) rfl (Nat.le_of_ble_eq_true rfl) q254 dX3_supports_46) ha27 e1 ?_
          refine xw_ii (show xm_Imp g Γ 49 (xi_ii (fun x y => x ||| y) 50) from xs_ior hΓ dX3_supports_49) ?_
          obtain ⟨a30, ha30, e⟩ := e
          obtain ⟨h31, e1, e⟩ := e
          refine xw_hias (o := l1) (show xm_Imp g Γ 50 (xi_ias 51) from xs_ias hG hΓ dX3_supports_50) ha30 e1 ?_
          refine xw_inc (v := (1)) (ls' := [none, some (va_rf l1), some (.int (s.1 + 1)), some (va_rf l3), some (va_rf v26.1)]) (show xm_Imp g Γ 51 (xi_inc 2 (1) 54) from xs_iinc hΓ dX3_supports_51 (by decide) (Nat.le_of_ble_eq_true rfl)) rfl ((xm_s1_o (o := l1) rfl).trans rfl) ?_
          refine xw_goto (show xm_Imp g Γ 54 (xi_goto 17) from xs_goto hΓ dX3_supports_54 (by decide)) ?_
          have hq := hk17 _ e; exact xm_lx (hq) (And.intro rfl (And.intro rfl (And.intro rfl (trivial))))
        rw [if_neg cc1] at e
        exact e.elim
    rw [if_neg cc0] at e
    by_cases cc1 : c14 = 16
    · rw [if_pos cc1] at e
      obtain ⟨v32, e1, e⟩ := e
      refine xw_hv0 (o := l3) (xm_or2 (show xm_Imp g Γ 18 (xi_or (xi_vir g 10 M_X12_hasNext 1 0 23) (xi_vir g 16 M_J23_hasNext 1 0 23)) from xs_or (xs_invF hG hΓ k_X12_hasNext rfl (ci := 10) rfl q1674 q1401 q1399 ⟨by decide, by decide⟩ (by decide +kernel) q1397 q1396 q1402 q1400 q1398 dX3_supports_18) (xs_invF hG hΓ k_J23_hasNext rfl (ci := 16) rfl q1674 q1407 q1405 ⟨by decide, by decide⟩ (by decide +kernel) q1397 q1396 q1408 q1406 q1404 dX3_supports_18))) (by simp [xm_stk, xv_cat, xc_int, xc_long, xc_float, xc_double, xc_ref]) ha13 (xh_is_of e0 cc1) (fun Q X hQ => K_J23_hasNext hG a13 _ e1 hQ) ?_
      refine xw_if (show xm_Imp g Γ 23 (xi_if (fun x => x = 0) 57 26) from xs_if_eq hΓ dX3_supports_23 (by decide)) (fun c => ?_) (fun c => ?_)
      · rw [if_pos c] at e
        refine xw_aldo (x := l1) (show xm_Imp g Γ 57 (xi_ald 1 58) from xs_aload_n hΓ dX3_supports_57) rfl ?_
        exact xw_areto (show xm_Imp g Γ 58 (xi_aret _) from xs_areturn hΓ rfl (Or.inr ⟨_, rfl⟩) dX3_supports_58) ⟨_, rfl, e⟩
      · rw [if_neg c] at e
        refine xw_aldo (x := l3) (show xm_Imp g Γ 26 (xi_ald 3 27) from xs_aload_n hΓ dX3_supports_26) rfl ?_
        obtain ⟨c33, e0, e⟩ := e
        by_cases cc0 : c33 = 10
        · rw [if_pos cc0] at e
          obtain ⟨m34, m35, ⟨em1, em2⟩, e⟩ := e
          refine xw_tvr0 (o := l3) (xm_or1 (show xm_Imp g Γ 27 (xi_or (xi_vir g 10 M_X12_next 9 0 32) (xi_vir g 16 M_J23_next 9 0 32)) from xs_or (xs_invF hG hΓ k_X12_next rfl (ci := 10) rfl q1676 q1416 q1414 ⟨by decide, by decide⟩ (by decide +kernel) q1413 q1412 q1417 q1415 q1398 dX3_supports_27) (xs_invF hG hΓ k_J23_next rfl (ci := 16) rfl q1676 q1448 q1446 ⟨by decide, by decide⟩ (by decide +kernel) q1413 q1412 q1449 q1447 q1404 dX3_supports_27))) (by simp [xm_stk, xv_cat, xc_int, xc_long, xc_float, xc_double, xc_ref]) ha13 (xh_is_of e0 cc0) em1 em2 (K_X12_next hG a13 _ _ _ e) (fun v37 h36 e => ?_)
          obtain ⟨_, e1, e⟩ := e
          refine xw_cast (o := v37) (show xm_Imp g Γ 32 (xi_cast "StringTableau$Row" 35) from xs_cast hG hΓ (xm_in 3 rfl) q239 dX3_supports_32) e1 ?_
          refine xw_asto (x := v37) (ls' := [none, some (va_rf l1), some (.int s.1), some (va_rf l3), some (va_rf v37)]) (show xm_Imp g Γ 35 (xi_ast 4 37) from xs_astore hΓ dX3_supports_35 (Nat.le_of_ble_eq_true rfl)) ((xm_s1_o (o := l3) rfl).trans rfl) ?_
          refine xw_aldo (x := l1) (show xm_Imp g Γ 37 (xi_ald 1 38) from xs_aload_n hΓ dX3_supports_37) rfl ?_
          refine xw_ild (show xm_Imp g Γ 38 (xi_ild 2 39) from xs_iload_n hΓ dX3_supports_38) rfl ?_
          refine xw_aldo (x := v37) (show xm_Imp g Γ 39 (xi_ald 4 41) from xs_aload hΓ dX3_supports_39) rfl ?_
          obtain ⟨a38, ha38, e⟩ := e
          obtain ⟨v39, e1, e⟩ := e
          refine xw_gi1 (o := v37) (show xm_Imp g Γ 41 (xi_get 3 0 44) from xs_getN hG hΓ (ci := 3) (kf := 0) rfl (Nat.le_of_ble_eq_true rfl) q249 dX3_supports_41) ha38 e1 ?_
          refine xw_aldo (x := v37) (show xm_Imp g Γ 44 (xi_ald 4 46) from xs_aload hΓ dX3_supports_44) rfl ?_
          obtain ⟨v40, e1, e⟩ := e
          refine xw_gi1 (o := v37) (show xm_Imp g Γ 46 (xi_get 3 1 49) from xs_getN hG hΓ (ci := 3) (kf := 1) rfl (Nat.le_of_ble_eq_true rfl) q254 dX3_supports_46) ha38 e1 ?_
          refine xw_ii (show xm_Imp g Γ 49 (xi_ii (fun x y => x ||| y) 50) from xs_ior hΓ dX3_supports_49) ?_
          obtain ⟨a41, ha41, e⟩ := e
          obtain ⟨h42, e1, e⟩ := e
          refine xw_hias (o := l1) (show xm_Imp g Γ 50 (xi_ias 51) from xs_ias hG hΓ dX3_supports_50) ha41 e1 ?_
          refine xw_inc (v := (1)) (ls' := [none, some (va_rf l1), some (.int (s.1 + 1)), some (va_rf l3), some (va_rf v37)]) (show xm_Imp g Γ 51 (xi_inc 2 (1) 54) from xs_iinc hΓ dX3_supports_51 (by decide) (Nat.le_of_ble_eq_true rfl)) rfl ((xm_s1_o (o := l1) rfl).trans rfl) ?_
          refine xw_goto (show xm_Imp g Γ 54 (xi_goto 17) from xs_goto hΓ dX3_supports_54 (by decide)) ?_
          have hq := hk17 _ e; exact xm_lx (hq) (And.intro rfl (And.intro rfl (And.intro rfl (trivial))))
        rw [if_neg cc0] at e
        by_cases cc1 : c33 = 16
        · rw [if_pos cc1] at e
          obtain ⟨v43, e1, e⟩ := e
          refine xw_hv0 (o := l3) (xm_or2 (show xm_Imp g Γ 27 (xi_or (xi_vir g 10 M_X12_next 9 0 32) (xi_vir g 16 M_J23_next 9 0 32)) from xs_or (xs_invF hG hΓ k_X12_next rfl (ci := 10) rfl q1676 q1416 q1414 ⟨by decide, by decide⟩ (by decide +kernel) q1413 q1412 q1417 q1415 q1398 dX3_supports_27) (xs_invF hG hΓ k_J23_next rfl (ci := 16) rfl q1676 q1448 q1446 ⟨by decide, by decide⟩ (by decide +kernel) q1413 q1412 q1449 q1447 q1404 dX3_supports_27))) (by simp [xm_stk, xv_cat, xc_int, xc_long, xc_float, xc_double, xc_ref]) ha13 (xh_is_of e0 cc1) (fun Q X hQ => K_J23_next hG a13 _ e1 hQ) ?_
          obtain ⟨_, e1, e⟩ := e
          refine xw_cast (o := v43.1) (show xm_Imp g Γ 32 (xi_cast "StringTableau$Row" 35) from xs_cast hG hΓ (xm_in 3 rfl) q239 dX3_supports_32) e1 ?_
          refine xw_asto (x := v43.1) (ls' := [none, some (va_rf l1), some (.int s.1), some (va_rf l3), some (va_rf v43.1)]) (show xm_Imp g Γ 35 (xi_ast 4 37) from xs_astore hΓ dX3_supports_35 (Nat.le_of_ble_eq_true rfl)) ((xm_s1_o (o := l3) rfl).trans rfl) ?_
          refine xw_aldo (x := l1) (show xm_Imp g Γ 37 (xi_ald 1 38) from xs_aload_n hΓ dX3_supports_37) rfl ?_
          refine xw_ild (show xm_Imp g Γ 38 (xi_ild 2 39) from xs_iload_n hΓ dX3_supports_38) rfl ?_
          refine xw_aldo (x := v43.1) (show xm_Imp g Γ 39 (xi_ald 4 41) from xs_aload hΓ dX3_supports_39) rfl ?_
          obtain ⟨a44, ha44, e⟩ := e
          obtain ⟨v45, e1, e⟩ := e
          refine xw_gi1 (o := v43.1) (show xm_Imp g Γ 41 (xi_get 3 0 44) from xs_getN hG hΓ (ci := 3) (kf := 0) rfl (Nat.le_of_ble_eq_true rfl) q249 dX3_supports_41) ha44 e1 ?_
          refine xw_aldo (x := v43.1) (show xm_Imp g Γ 44 (xi_ald 4 46) from xs_aload hΓ dX3_supports_44) rfl ?_
          obtain ⟨v46, e1, e⟩ := e
          refine xw_gi1 (o := v43.1) (show xm_Imp g Γ 46 (xi_get 3 1 49) from xs_getN hG hΓ (ci := 3) (kf := 1) rfl (Nat.le_of_ble_eq_true rfl) q254 dX3_supports_46) ha44 e1 ?_
          refine xw_ii (show xm_Imp g Γ 49 (xi_ii (fun x y => x ||| y) 50) from xs_ior hΓ dX3_supports_49) ?_
          obtain ⟨a47, ha47, e⟩ := e
          obtain ⟨h48, e1, e⟩ := e
          refine xw_hias (o := l1) (show xm_Imp g Γ 50 (xi_ias 51) from xs_ias hG hΓ dX3_supports_50) ha47 e1 ?_
          refine xw_inc (v := (1)) (ls' := [none, some (va_rf l1), some (.int (s.1 + 1)), some (va_rf l3), some (va_rf v43.1)]) (show xm_Imp g Γ 51 (xi_inc 2 (1) 54) from xs_iinc hΓ dX3_supports_51 (by decide) (Nat.le_of_ble_eq_true rfl)) rfl ((xm_s1_o (o := l1) rfl).trans rfl) ?_
          refine xw_goto (show xm_Imp g Γ 54 (xi_goto 17) from xs_goto hΓ dX3_supports_54 (by decide)) ?_
          have hq := hk17 _ e; exact xm_lx (hq) (And.intro rfl (And.intro rfl (And.intro rfl (trivial))))
        rw [if_neg cc1] at e
        exact e.elim
    rw [if_neg cc1] at e
    exact e.elim
  unfold F_X3_supports at e
  refine xw_psh (v := (.int (1))) (show xm_Imp g Γ 0 (xi_psh (.int (1)) 1) from xs_iconst hΓ dX3_supports_0 (by decide)) ?_
  refine xw_ald (show xm_Imp g Γ 1 (xi_ald 0 2) from xs_aload_n hΓ dX3_supports_1) rfl ?_
  obtain ⟨v1, e1, e⟩ := e
  refine xw_gr1 (o := (some p0)) (show xm_Imp g Γ 2 (xi_get 2 0 5) from xs_get hG hΓ (ci := 2) (kf := 0) rfl (Nat.le_of_ble_eq_true rfl) q268 dX3_supports_2) rfl e1 ?_
  obtain ⟨a2, ha2, e⟩ := e
  obtain ⟨v3, e1, e⟩ := e
  refine xw_hlen (o := v1) (show xm_Imp g Γ 5 (xi_len 6) from xs_len hG hΓ dX3_supports_5) ha2 e1 ?_
  refine xw_ii (show xm_Imp g Γ 6 (xi_ii (fun x y => x <<< (y &&& 31)) 7) from xs_ishl hΓ dX3_supports_6) ?_
  obtain ⟨N8, e1, e⟩ := e
  refine xw_neai (show xm_Imp g Γ 7 (xi_nea .int xm_zi 9) from xs_newa (at0 := .int) hG hΓ rfl (by decide) (by decide) xm_zi xm_zi_int q267 dX3_supports_7) e1 e (fun a4 h5 b6 b7 e => ?_)
  refine xw_ast (ls' := [some (.ref p0), some (.ref a4), none, none, none]) (show xm_Imp g Γ 9 (xi_ast 1 10) from xs_astore_n hΓ dX3_supports_9 (Nat.le_of_ble_eq_true rfl)) rfl ?_
  refine xw_psh (v := (.int (0))) (show xm_Imp g Γ 10 (xi_psh (.int (0)) 11) from xs_iconst hΓ dX3_supports_10 (by decide)) ?_
  refine xw_ist (ls' := [some (.ref p0), some (.ref a4), some (.int 0), none, none]) (show xm_Imp g Γ 11 (xi_ist 2 12) from xs_istore_n hΓ dX3_supports_11 (Nat.le_of_ble_eq_true rfl)) rfl ?_
  refine xw_ald (show xm_Imp g Γ 12 (xi_ald 0 13) from xs_aload_n hΓ dX3_supports_12) rfl ?_
  obtain ⟨_, e0, e⟩ := e
  obtain ⟨m9, m10, ⟨em1, em2⟩, e⟩ := e
  refine xw_tvr0 (o := (some p0)) (show xm_Imp g Γ 13 (xi_vir g 2 M_X3_iterator 3 0 16) from xs_invV hG hΓ k_X3_iterator rfl (ci := 2) rfl q1672 q1638 q1639 dX3_supports_13) rfl rfl e0 em1 em2 (K_X3_iterator hG p0 _ _ _ e) (fun v12 h11 e => ?_)
  refine xw_asto (x := v12) (ls' := [some (.ref p0), some (.ref a4), some (.int 0), some (va_rf v12), none]) (show xm_Imp g Γ 16 (xi_ast 3 17) from xs_astore_n hΓ dX3_supports_16 (Nat.le_of_ble_eq_true rfl)) rfl ?_
  exact xm_lx (hL_17 _ _ _ e) (And.intro rfl (And.intro rfl (And.intro rfl (trivial))))
noncomputable def B_X1_entropyBy_36 (g : xm_G) (l1 : Int32) (l2 : Int32) (l3 : Option Nat) (l4 : Int32) (l5 : Int32) (h : xm_H) : Option ((Int32 × Int32) ⊕ (Int32)) :=
 some (Sum.inl (l2, (l5 + 1)))
noncomputable def D_X1_entropyBy_11 (g : xm_G) (l1 : Int32) (l3 : Option Nat) (l4 : Int32) (h : xm_H) (s : Int32 × Int32) : Option ((Int32 × Int32) ⊕ (Int32)) :=
 (if l4 ≤ s.2 then
 xl_o (some ((F_J17_bitCount l1) - (F_J17_numberOfTrailingZeros s.1))) else
 xo_b l3 (fun a3 =>
 xo_b (xh_ai .int h a3 s.2) (fun v4 =>
 B_X1_entropyBy_36 g l1 (if (v4 &&& (l1 ^^^ (-1))) = 0 then s.1 + 1 else s.1) l3 l4 s.2 h)))
noncomputable def L_X1_entropyBy_11 (g : xm_G) (l1 : Int32) (l3 : Option Nat) (l4 : Int32) (h : xm_H) (s : Int32 × Int32) : Option (Int32) := xl_loop (D_X1_entropyBy_11 g l1 l3 l4 h) s
noncomputable def F_X1_entropyBy (g : xm_G) (p0 : Option Nat) (p1 : Int32) (h : xm_H) : Option (Int32) :=
 xo_b p0 (fun a1 =>
 xo_b (xh_len h a1) (fun v2 =>
 L_X1_entropyBy_11 g p1 p0 v2 h (0, 0)))
set_option maxHeartbeats 4000000 in
theorem K_X1_entropyBy {g : xm_G} (hG : xm_Gw g) (p0 : Option Nat) (p1 : Int32) (h : xm_H) {o : Int32} (e : F_X1_entropyBy g p0 p1 h = some o) {Q : xm_P} {X : xm_X} (hQ : Q (some (.int o)) h) : xm_Run g M_X1_entropyBy 2 [va_rf p0, .int p1] h 0 0 Q X := by
  refine xm_Run.of2 (ls := [some (va_rf p0), some (.int p1), none, none, none, none, none]) pn_StringTableau (by cases p0 <;> exact Nat.le_of_ble_eq_true rfl) (by cases p0 <;> rfl) (fun Γ hΓ => ?_)
  obtain ⟨P0, hP0, hp⟩ : ∃ P : Int32 → Prop, (∀ o, P o → Q (some (.int o)) h) ∧ P o := ⟨fun o => Q (some (.int o)) h, fun _ h => h, hQ⟩
  clear hQ
  show xm_W g Γ 0 [some (va_rf p0), some (.int p1), none, none, none, none, none] [] h 0 0
  have hL_11 : ∀ (l1 : Int32) (l3 : Option Nat) (l4 : Int32) (s : Int32 × Int32) (o : Int32), L_X1_entropyBy_11 g l1 l3 l4 h s = some o → P0 o → xm_W g Γ 11 [none, some (.int l1), some (.int s.1), some (va_rf l3), some (.int l4), some (.int s.2), none] [] h 0 0 := by
    intro l1 l3 l4
    refine xl_rule (WS := fun s : Int32 × Int32 => xm_W g Γ 11 [none, some (.int l1), some (.int s.1), some (va_rf l3), some (.int l4), some (.int s.2), none] [] h 0 0) ?_
    intro s o e hp
    obtain ⟨P1, hP1, hp⟩ : ∃ P : (Int32 × Int32) ⊕ (Int32) → Prop, (∀ o, P o → xl_P (fun s : Int32 × Int32 => xm_W g Γ 11 [none, some (.int l1), some (.int s.1), some (va_rf l3), some (.int l4), some (.int s.2), none] [] h 0 0) P0 o) ∧ P o := ⟨_, fun _ h => h, hp⟩
    have hB_36 : ∀ (l2 : Int32) (l5 : Int32) (o : (Int32 × Int32) ⊕ (Int32)), B_X1_entropyBy_36 g l1 l2 l3 l4 l5 h = some o → P1 o → xm_W g Γ 36 [none, some (.int l1), some (.int l2), some (va_rf l3), some (.int l4), some (.int l5), none] [] h 0 0 := by
      intro l2 l5 o e hp
      unfold B_X1_entropyBy_36 at e
      refine xw_inc (v := (1)) (ls' := [none, some (.int l1), some (.int l2), some (va_rf l3), some (.int l4), some (.int (l5 + 1)), none]) (show xm_Imp g Γ 36 (xi_inc 5 (1) 39) from xs_iinc hΓ dX1_entropyBy_36 (by decide) (Nat.le_of_ble_eq_true rfl)) rfl rfl ?_
      refine xw_goto (show xm_Imp g Γ 39 (xi_goto 11) from xs_goto hΓ dX1_entropyBy_39 (by decide)) ?_
      have hq := xl_P_inl (hP1 _ (xl_fin e hp)); exact hq
    unfold D_X1_entropyBy_11 at e
    refine xw_ild (show xm_Imp g Γ 11 (xi_ild 5 13) from xs_iload hΓ dX1_entropyBy_11) rfl ?_
    refine xw_ild (show xm_Imp g Γ 13 (xi_ild 4 15) from xs_iload hΓ dX1_entropyBy_13) rfl ?_
    refine xw_ic (show xm_Imp g Γ 15 (xi_ic (fun x y => y ≤ x) 42 18) from xs_icmp_ge hΓ dX1_entropyBy_15 (by decide)) (fun c => ?_) (fun c => ?_)
    · rw [if_pos c] at e
      obtain ⟨_, e, hp⟩ := xl_o_s e (hP1 _ hp)
      refine xw_ild (show xm_Imp g Γ 42 (xi_ild 1 43) from xs_iload_n hΓ dX1_entropyBy_42) rfl ?_
      refine xw_sv1 (show xm_Imp g Γ 43 (xi_inv g M_J17_bitCount 1 1 46) from xs_invS hG hΓ k_J17_bitCount rfl q1209 q1210 dX1_entropyBy_43) rfl (fun Q X hQ => K_J17_bitCount hG l1 rfl hQ) ?_
      refine xw_ild (show xm_Imp g Γ 46 (xi_ild 2 47) from xs_iload_n hΓ dX1_entropyBy_46) rfl ?_
      refine xw_sv1 (show xm_Imp g Γ 47 (xi_inv g M_J17_numberOfTrailingZeros 1 1 50) from xs_invS hG hΓ k_J17_numberOfTrailingZeros rfl q1680 q1569 dX1_entropyBy_47) rfl (fun Q X hQ => K_J17_numberOfTrailingZeros hG s.1 rfl hQ) ?_
      refine xw_ii (show xm_Imp g Γ 50 (xi_ii (fun x y => x - y) 51) from xs_isub hΓ dX1_entropyBy_50) ?_
      have hq := hP0 _ (xl_fin e hp)
      exact xw_iret (show xm_Imp g Γ 51 (xi_iret .int _) from xs_ireturn hΓ rfl dX1_entropyBy_51) (xn_int _) hq
    · rw [if_neg c] at e
      refine xw_aldo (x := l3) (show xm_Imp g Γ 18 (xi_ald 3 19) from xs_aload_n hΓ dX1_entropyBy_18) rfl ?_
      refine xw_ild (show xm_Imp g Γ 19 (xi_ild 5 21) from xs_iload hΓ dX1_entropyBy_19) rfl ?_
      obtain ⟨a3, ha3, e⟩ := xo_b_s e
      obtain ⟨v4, e1, e⟩ := xo_b_s e
      refine xw_hial (o := l3) (show xm_Imp g Γ 21 (xi_ial 22) from xs_ial hG hΓ dX1_entropyBy_21) ha3 e1 ?_
      refine xw_ist (ls' := [none, some (.int l1), some (.int s.1), some (va_rf l3), some (.int l4), some (.int s.2), some (.int v4)]) (show xm_Imp g Γ 22 (xi_ist 6 24) from xs_istore hΓ dX1_entropyBy_22 (Nat.le_of_ble_eq_true rfl)) rfl ?_
      refine xw_ild (show xm_Imp g Γ 24 (xi_ild 6 26) from xs_iload hΓ dX1_entropyBy_24) rfl ?_
      refine xw_ild (show xm_Imp g Γ 26 (xi_ild 1 27) from xs_iload_n hΓ dX1_entropyBy_26) rfl ?_
      refine xw_psh (v := (.int (-1))) (show xm_Imp g Γ 27 (xi_psh (.int (-1)) 28) from xs_iconst hΓ dX1_entropyBy_27 (by decide)) ?_
      refine xw_ii (show xm_Imp g Γ 28 (xi_ii (fun x y => x ^^^ y) 29) from xs_ixor hΓ dX1_entropyBy_28) ?_
      refine xw_ii (show xm_Imp g Γ 29 (xi_ii (fun x y => x &&& y) 30) from xs_iand hΓ dX1_entropyBy_29) ?_
      refine xw_if (show xm_Imp g Γ 30 (xi_if (fun x => x = 0) 33 36) from xs_if_ne hΓ dX1_entropyBy_30 (by decide)) (fun c => ?_) (fun c => ?_)
      · rw [if_pos c] at e
        refine xw_inc (v := (1)) (ls' := [none, some (.int l1), some (.int (s.1 + 1)), some (va_rf l3), some (.int l4), some (.int s.2), some (.int v4)]) (show xm_Imp g Γ 33 (xi_inc 2 (1) 36) from xs_iinc hΓ dX1_entropyBy_33 (by decide) (Nat.le_of_ble_eq_true rfl)) rfl rfl ?_
        exact xm_lx (hB_36 _ _ _ e hp) (And.intro rfl (And.intro rfl (And.intro rfl (And.intro rfl (And.intro rfl (trivial))))))
      · rw [if_neg c] at e
        exact xm_lx (hB_36 _ _ _ e hp) (And.intro rfl (And.intro rfl (And.intro rfl (And.intro rfl (And.intro rfl (trivial))))))
  unfold F_X1_entropyBy at e
  refine xw_psh (v := (.int (0))) (show xm_Imp g Γ 0 (xi_psh (.int (0)) 1) from xs_iconst hΓ dX1_entropyBy_0 (by decide)) ?_
  refine xw_ist (ls' := [some (va_rf p0), some (.int p1), some (.int 0), none, none, none, none]) (show xm_Imp g Γ 1 (xi_ist 2 2) from xs_istore_n hΓ dX1_entropyBy_1 (Nat.le_of_ble_eq_true rfl)) rfl ?_
  refine xw_aldo (x := p0) (show xm_Imp g Γ 2 (xi_ald 0 3) from xs_aload_n hΓ dX1_entropyBy_2) rfl ?_
  refine xw_asto (x := p0) (ls' := [some (va_rf p0), some (.int p1), some (.int 0), some (va_rf p0), none, none, none]) (show xm_Imp g Γ 3 (xi_ast 3 4) from xs_astore_n hΓ dX1_entropyBy_3 (Nat.le_of_ble_eq_true rfl)) rfl ?_
  refine xw_aldo (x := p0) (show xm_Imp g Γ 4 (xi_ald 3 5) from xs_aload_n hΓ dX1_entropyBy_4) rfl ?_
  obtain ⟨a1, ha1, e⟩ := xo_b_s e
  obtain ⟨v2, e1, e⟩ := xo_b_s e
  refine xw_hlen (o := p0) (show xm_Imp g Γ 5 (xi_len 6) from xs_len hG hΓ dX1_entropyBy_5) ha1 e1 ?_
  refine xw_ist (ls' := [some (va_rf p0), some (.int p1), some (.int 0), some (va_rf p0), some (.int v2), none, none]) (show xm_Imp g Γ 6 (xi_ist 4 8) from xs_istore hΓ dX1_entropyBy_6 (Nat.le_of_ble_eq_true rfl)) ((xm_s1_o (o := p0) rfl).trans rfl) ?_
  refine xw_psh (v := (.int (0))) (show xm_Imp g Γ 8 (xi_psh (.int (0)) 9) from xs_iconst hΓ dX1_entropyBy_8 (by decide)) ?_
  refine xw_ist (ls' := [some (va_rf p0), some (.int p1), some (.int 0), some (va_rf p0), some (.int v2), some (.int 0), none]) (show xm_Imp g Γ 9 (xi_ist 5 11) from xs_istore hΓ dX1_entropyBy_9 (Nat.le_of_ble_eq_true rfl)) rfl ?_
  exact xm_lx (hL_11 _ _ _ _ _ e hp) (And.intro rfl (And.intro rfl (And.intro rfl (And.intro rfl (And.intro rfl (trivial))))))
noncomputable def B_X1_freeQubits_39 (g : xm_G) (l0 : Nat) (l1 : Option Nat) (l2 : Int32) (l3 : Int32) (h : xm_H) (bc : Nat) (bs : Nat) (k15 : Int32 × Int32 × xm_H × Nat × Nat → Prop) (Q : Int32 → xm_H → Prop) : Prop :=
 k15 (l2, (l3 + 1), h, bc, bs)
noncomputable def D_X1_freeQubits_15 (g : xm_G) (l0 : Nat) (l1 : Option Nat) (Q : Int32 → xm_H → Prop) (k15 : Int32 × Int32 × xm_H × Nat × Nat → Prop) (s : Int32 × Int32 × xm_H × Nat × Nat) : Prop :=
 xt_b (xh_is 0 s.2.2.1 l0) (fun _ =>
 xt_b (F_X1_qubits g l0 s.2.2.1) (fun v9 =>
 (if v9 ≤ s.2.1 then
 Q s.1 s.2.2.1 else
 xt_b (F_X1_entropyBy g l1 (1 <<< (s.2.1 &&& 31)) s.2.2.1) (fun v10 =>
 B_X1_freeQubits_39 g l0 l1 (if v10 = 0 then s.1 ||| (1 <<< (s.2.1 &&& 31)) else s.1) s.2.1 s.2.2.1 s.2.2.2.1 s.2.2.2.2 k15 Q))))
noncomputable def L_X1_freeQubits_15 (g : xm_G) (l0 : Nat) (l1 : Option Nat) (Q : Int32 → xm_H → Prop) (s : Int32 × Int32 × xm_H × Nat × Nat) : Prop := xt_loop (D_X1_freeQubits_15 g l0 l1 Q) s
noncomputable def F_X1_freeQubits (g : xm_G) (p0 : Nat) (h : xm_H) (bc : Nat) (bs : Nat) (Q : Int32 → xm_H → Prop) : Prop :=
 xt_b (xh_fr [(0, 0)] h p0) (fun v1 =>
 xt_b v1 (fun a2 =>
 xt_b (xh_fr [(1, 0)] h a2) (fun v3 =>
 xt_b v3 (fun a4 =>
 xt_b (xh_is 2 h a4) (fun _ =>
 xt_c bc bs (fun m5 m6 => F_X3_supports g a4 h m5 m6 (fun v8 h7 =>
 L_X1_freeQubits_15 g p0 v8 Q (0, 0, h7, (bc - m5), (bs - m6)))))))))
set_option maxHeartbeats 4000000 in
theorem K_X1_freeQubits {g : xm_G} (hG : xm_Gw g) (p0 : Nat) (h : xm_H) (bc : Nat) (bs : Nat) {Q : Int32 → xm_H → Prop} (e : F_X1_freeQubits g p0 h bc bs Q) : xm_Run g M_X1_freeQubits 11 [.ref p0] h bc bs (fun v h' => ∃ r, v = some (.int r) ∧ Q r h') xm_no := by
  refine xm_Run.of pn_StringTableau (Nat.le_of_ble_eq_true rfl) (fun Γ hΓ => ?_)
  show xm_W g Γ 0 [some (.ref p0), none, none, none] [] h bc bs
  have hL_15 : ∀ (l0 : Nat) (l1 : Option Nat) (s : Int32 × Int32 × xm_H × Nat × Nat), L_X1_freeQubits_15 g l0 l1 Q s → xm_W g Γ 15 [some (.ref l0), some (va_rf l1), some (.int s.1), some (.int s.2.1)] [] s.2.2.1 s.2.2.2.1 s.2.2.2.2 := by
    intro l0 l1
    refine xt_rule (WS := fun s : Int32 × Int32 × xm_H × Nat × Nat => xm_W g Γ 15 [some (.ref l0), some (va_rf l1), some (.int s.1), some (.int s.2.1)] [] s.2.2.1 s.2.2.2.1 s.2.2.2.2) ?_
    intro k15 hk15 s e
    have hB_39 : ∀ (l2 : Int32) (l3 : Int32) (h : xm_H) (bc : Nat) (bs : Nat), B_X1_freeQubits_39 g l0 l1 l2 l3 h bc bs k15 Q → xm_W g Γ 39 [some (.ref l0), some (va_rf l1), some (.int l2), some (.int l3)] [] h bc bs := by
      intro l2 l3 h bc bs e
      unfold B_X1_freeQubits_39 at e
      refine xw_inc (v := (1)) (ls' := [some (.ref l0), some (va_rf l1), some (.int l2), some (.int (l3 + 1))]) (show xm_Imp g Γ 39 (xi_inc 3 (1) 42) from xs_iinc hΓ dX1_freeQubits_39 (by decide) (Nat.le_of_ble_eq_true rfl)) rfl rfl ?_
      refine xw_goto (show xm_Imp g Γ 42 (xi_goto 15) from xs_goto hΓ dX1_freeQubits_42 (by decide)) ?_
      have hq := hk15 _ e; exact hq
    unfold D_X1_freeQubits_15 at e
    refine xw_ild (show xm_Imp g Γ 15 (xi_ild 3 16) from xs_iload_n hΓ dX1_freeQubits_15) rfl ?_
    refine xw_ald (show xm_Imp g Γ 16 (xi_ald 0 17) from xs_aload_n hΓ dX1_freeQubits_16) rfl ?_
    obtain ⟨_, e0, e⟩ := e
    obtain ⟨v9, e1, e⟩ := e
    refine xw_hv0 (o := (some l0)) (show xm_Imp g Γ 17 (xi_vir g 0 M_X1_qubits 1 0 20) from xs_invV hG hΓ k_X1_qubits rfl (ci := 0) rfl q1139 q1141 qs20 dX1_freeQubits_17) rfl rfl e0 (fun Q X hQ => K_X1_qubits hG l0 _ e1 hQ) ?_
    refine xw_ic (show xm_Imp g Γ 20 (xi_ic (fun x y => y ≤ x) 45 23) from xs_icmp_ge hΓ dX1_freeQubits_20 (by decide)) (fun c => ?_) (fun c => ?_)
    · rw [if_pos c] at e
      refine xw_ild (show xm_Imp g Γ 45 (xi_ild 2 46) from xs_iload_n hΓ dX1_freeQubits_45) rfl ?_
      exact xw_iret (show xm_Imp g Γ 46 (xi_iret .int _) from xs_ireturn hΓ rfl dX1_freeQubits_46) (xn_int _) ⟨_, rfl, e⟩
    · rw [if_neg c] at e
      refine xw_aldo (x := l1) (show xm_Imp g Γ 23 (xi_ald 1 24) from xs_aload_n hΓ dX1_freeQubits_23) rfl ?_
      refine xw_psh (v := (.int (1))) (show xm_Imp g Γ 24 (xi_psh (.int (1)) 25) from xs_iconst hΓ dX1_freeQubits_24 (by decide)) ?_
      refine xw_ild (show xm_Imp g Γ 25 (xi_ild 3 26) from xs_iload_n hΓ dX1_freeQubits_25) rfl ?_
      refine xw_ii (show xm_Imp g Γ 26 (xi_ii (fun x y => x <<< (y &&& 31)) 27) from xs_ishl hΓ dX1_freeQubits_26) ?_
      obtain ⟨v10, e1, e⟩ := e
      refine xw_sv2 (show xm_Imp g Γ 27 (xi_inv g M_X1_entropyBy 2 2 30) from xs_invS hG hΓ k_X1_entropyBy rfl q1677 q1678 dX1_freeQubits_27) rfl (fun Q X hQ => K_X1_entropyBy hG l1 (1 <<< (s.2.1 &&& 31)) _ e1 hQ) ?_
      refine xw_if (show xm_Imp g Γ 30 (xi_if (fun x => x = 0) 33 39) from xs_if_ne hΓ dX1_freeQubits_30 (by decide)) (fun c => ?_) (fun c => ?_)
      · rw [if_pos c] at e
        refine xw_ild (show xm_Imp g Γ 33 (xi_ild 2 34) from xs_iload_n hΓ dX1_freeQubits_33) rfl ?_
        refine xw_psh (v := (.int (1))) (show xm_Imp g Γ 34 (xi_psh (.int (1)) 35) from xs_iconst hΓ dX1_freeQubits_34 (by decide)) ?_
        refine xw_ild (show xm_Imp g Γ 35 (xi_ild 3 36) from xs_iload_n hΓ dX1_freeQubits_35) rfl ?_
        refine xw_ii (show xm_Imp g Γ 36 (xi_ii (fun x y => x <<< (y &&& 31)) 37) from xs_ishl hΓ dX1_freeQubits_36) ?_
        refine xw_ii (show xm_Imp g Γ 37 (xi_ii (fun x y => x ||| y) 38) from xs_ior hΓ dX1_freeQubits_37) ?_
        refine xw_ist (ls' := [some (.ref l0), some (va_rf l1), some (.int (s.1 ||| (1 <<< (s.2.1 &&& 31)))), some (.int s.2.1)]) (show xm_Imp g Γ 38 (xi_ist 2 39) from xs_istore_n hΓ dX1_freeQubits_38 (Nat.le_of_ble_eq_true rfl)) ((xm_s1_o (o := l1) rfl).trans rfl) ?_
        exact hB_39 _ _ _ _ _ e
      · rw [if_neg c] at e
        exact hB_39 _ _ _ _ _ e
  unfold F_X1_freeQubits at e
  refine xw_ald (show xm_Imp g Γ 0 (xi_ald 0 1) from xs_aload_n hΓ dX1_freeQubits_0) rfl ?_
  obtain ⟨v1, e1, e⟩ := e
  refine xw_gr1 (o := (some p0)) (show xm_Imp g Γ 1 (xi_get 0 0 4) from xs_get hG hΓ (ci := 0) (kf := 0) rfl (Nat.le_of_ble_eq_true rfl) q343 dX1_freeQubits_1) rfl e1 ?_
  obtain ⟨a2, ha2, e⟩ := e
  obtain ⟨v3, e1, e⟩ := e
  refine xw_gr1 (o := v1) (show xm_Imp g Γ 4 (xi_get 1 0 7) from xs_getN hG hΓ (ci := 1) (kf := 0) rfl (Nat.le_of_ble_eq_true rfl) q276 dX1_freeQubits_4) ha2 e1 ?_
  obtain ⟨a4, ha4, e⟩ := e
  obtain ⟨_, e0, e⟩ := e
  obtain ⟨m5, m6, ⟨em1, em2⟩, e⟩ := e
  refine xw_tvr0 (o := v3) (show xm_Imp g Γ 7 (xi_vir g 2 M_X3_supports 10 0 10) from xs_invV hG hΓ k_X3_supports rfl (ci := 2) rfl q1668 q1669 q1670 dX1_freeQubits_7) (by simp [xm_stk, xv_cat, xc_int, xc_long, xc_float, xc_double, xc_ref]) ha4 e0 em1 em2 (K_X3_supports hG a4 _ _ _ e) (fun v8 h7 e => ?_)
  refine xw_asto (x := v8) (ls' := [some (.ref p0), some (va_rf v8), none, none]) (show xm_Imp g Γ 10 (xi_ast 1 11) from xs_astore_n hΓ dX1_freeQubits_10 (Nat.le_of_ble_eq_true rfl)) rfl ?_
  refine xw_psh (v := (.int (0))) (show xm_Imp g Γ 11 (xi_psh (.int (0)) 12) from xs_iconst hΓ dX1_freeQubits_11 (by decide)) ?_
  refine xw_ist (ls' := [some (.ref p0), some (va_rf v8), some (.int 0), none]) (show xm_Imp g Γ 12 (xi_ist 2 13) from xs_istore_n hΓ dX1_freeQubits_12 (Nat.le_of_ble_eq_true rfl)) ((xm_s1_o (o := v8) rfl).trans rfl) ?_
  refine xw_psh (v := (.int (0))) (show xm_Imp g Γ 13 (xi_psh (.int (0)) 14) from xs_iconst hΓ dX1_freeQubits_13 (by decide)) ?_
  refine xw_ist (ls' := [some (.ref p0), some (va_rf v8), some (.int 0), some (.int 0)]) (show xm_Imp g Γ 14 (xi_ist 3 15) from xs_istore_n hΓ dX1_freeQubits_14 (Nat.le_of_ble_eq_true rfl)) rfl ?_
  exact hL_15 _ _ _ e
noncomputable def B_X1_spread_45 (g : xm_G) (l1 : Int32) (l2 : Option Nat) (l3 : Int32) (l4 : Int32) (h : xm_H) (bc : Nat) (bs : Nat) (k22 : Int32 × Int32 × xm_H × Nat × Nat → Prop) (Q : Int32 → xm_H → Prop) : Prop :=
 k22 (l1, (l4 + 1), h, bc, bs)
noncomputable def D_X1_spread_22 (g : xm_G) (l2 : Option Nat) (l3 : Int32) (Q : Int32 → xm_H → Prop) (k22 : Int32 × Int32 × xm_H × Nat × Nat → Prop) (s : Int32 × Int32 × xm_H × Nat × Nat) : Prop :=
 (if l3 ≤ s.2.1 then
 Q s.1 s.2.2.1 else
 xt_b l2 (fun a13 =>
 xt_b (xh_ar "StringTableau$Row" s.2.2.1 a13 s.2.1) (fun v14 =>
 xt_b v14 (fun a15 =>
 xt_b (xh_fi [(3, 0)] s.2.2.1 a15) (fun v16 =>
 B_X1_spread_45 g (if v16 = 0 then s.1 else s.1 + 1) l2 l3 s.2.1 s.2.2.1 s.2.2.2.1 s.2.2.2.2 k22 Q)))))
noncomputable def L_X1_spread_22 (g : xm_G) (l2 : Option Nat) (l3 : Int32) (Q : Int32 → xm_H → Prop) (s : Int32 × Int32 × xm_H × Nat × Nat) : Prop := xt_loop (D_X1_spread_22 g l2 l3 Q) s
noncomputable def F_X1_spread (g : xm_G) (p0 : Nat) (h : xm_H) (bc : Nat) (bs : Nat) (Q : Int32 → xm_H → Prop) : Prop :=
 xt_b (xh_fr [(0, 0)] h p0) (fun v1 =>
 xt_b v1 (fun a2 =>
 xt_b (xh_fr [(1, 0)] h a2) (fun v3 =>
 xt_b v3 (fun a4 =>
 xt_b (xh_is 2 h a4) (fun _ =>
 xt_c bc bs (fun m5 m6 => F_X3_canonical g a4 h m5 m6 (fun v8 h7 =>
 xt_b v8 (fun a9 =>
 xt_b (xh_fr [(2, 0)] h7 a9) (fun v10 =>
 xt_b v10 (fun a11 =>
 xt_b (xh_len h7 a11) (fun v12 =>
 L_X1_spread_22 g v10 v12 Q (0, 0, h7, (bc - m5), (bs - m6)))))))))))))
set_option maxHeartbeats 4000000 in
theorem K_X1_spread {g : xm_G} (hG : xm_Gw g) (p0 : Nat) (h : xm_H) (bc : Nat) (bs : Nat) {Q : Int32 → xm_H → Prop} (e : F_X1_spread g p0 h bc bs Q) : xm_Run g M_X1_spread 7 [.ref p0] h bc bs (fun v h' => ∃ r, v = some (.int r) ∧ Q r h') xm_no := by
  refine xm_Run.of pn_StringTableau (Nat.le_of_ble_eq_true rfl) (fun Γ hΓ => ?_)
  show xm_W g Γ 0 [some (.ref p0), none, none, none, none, none] [] h bc bs
  have hL_22 : ∀ (l2 : Option Nat) (l3 : Int32) (s : Int32 × Int32 × xm_H × Nat × Nat), L_X1_spread_22 g l2 l3 Q s → xm_W g Γ 22 [none, some (.int s.1), some (va_rf l2), some (.int l3), some (.int s.2.1), none] [] s.2.2.1 s.2.2.2.1 s.2.2.2.2 := by
    intro l2 l3
    refine xt_rule (WS := fun s : Int32 × Int32 × xm_H × Nat × Nat => xm_W g Γ 22 [none, some (.int s.1), some (va_rf l2), some (.int l3), some (.int s.2.1), none] [] s.2.2.1 s.2.2.2.1 s.2.2.2.2) ?_
    intro k22 hk22 s e
    have hB_45 : ∀ (l1 : Int32) (l4 : Int32) (h : xm_H) (bc : Nat) (bs : Nat), B_X1_spread_45 g l1 l2 l3 l4 h bc bs k22 Q → xm_W g Γ 45 [none, some (.int l1), some (va_rf l2), some (.int l3), some (.int l4), none] [] h bc bs := by
      intro l1 l4 h bc bs e
      unfold B_X1_spread_45 at e
      refine xw_inc (v := (1)) (ls' := [none, some (.int l1), some (va_rf l2), some (.int l3), some (.int (l4 + 1)), none]) (show xm_Imp g Γ 45 (xi_inc 4 (1) 48) from xs_iinc hΓ dX1_spread_45 (by decide) (Nat.le_of_ble_eq_true rfl)) rfl rfl ?_
      refine xw_goto (show xm_Imp g Γ 48 (xi_goto 22) from xs_goto hΓ dX1_spread_48 (by decide)) ?_
      have hq := hk22 _ e; exact hq
    unfold D_X1_spread_22 at e
    refine xw_ild (show xm_Imp g Γ 22 (xi_ild 4 24) from xs_iload hΓ dX1_spread_22) rfl ?_
    refine xw_ild (show xm_Imp g Γ 24 (xi_ild 3 25) from xs_iload_n hΓ dX1_spread_24) rfl ?_
    refine xw_ic (show xm_Imp g Γ 25 (xi_ic (fun x y => y ≤ x) 51 28) from xs_icmp_ge hΓ dX1_spread_25 (by decide)) (fun c => ?_) (fun c => ?_)
    · rw [if_pos c] at e
      refine xw_ild (show xm_Imp g Γ 51 (xi_ild 1 52) from xs_iload_n hΓ dX1_spread_51) rfl ?_
      exact xw_iret (show xm_Imp g Γ 52 (xi_iret .int _) from xs_ireturn hΓ rfl dX1_spread_52) (xn_int _) ⟨_, rfl, e⟩
    · rw [if_neg c] at e
      refine xw_aldo (x := l2) (show xm_Imp g Γ 28 (xi_ald 2 29) from xs_aload_n hΓ dX1_spread_28) rfl ?_
      refine xw_ild (show xm_Imp g Γ 29 (xi_ild 4 31) from xs_iload hΓ dX1_spread_29) rfl ?_
      obtain ⟨a13, ha13, e⟩ := e
      obtain ⟨v14, e1, e⟩ := e
      refine xw_haal (o := l2) (show xm_Imp g Γ 31 (xi_aal "StringTableau$Row" 32) from xs_aal hG hΓ dX1_spread_31) ha13 e1 ?_
      refine xw_asto (x := v14) (ls' := [none, some (.int s.1), some (va_rf l2), some (.int l3), some (.int s.2.1), some (va_rf v14)]) (show xm_Imp g Γ 32 (xi_ast 5 34) from xs_astore hΓ dX1_spread_32 (Nat.le_of_ble_eq_true rfl)) rfl ?_
      refine xw_aldo (x := v14) (show xm_Imp g Γ 34 (xi_ald 5 36) from xs_aload hΓ dX1_spread_34) rfl ?_
      obtain ⟨a15, ha15, e⟩ := e
      obtain ⟨v16, e1, e⟩ := e
      refine xw_gi1 (o := v14) (show xm_Imp g Γ 36 (xi_get 3 0 39) from xs_getN hG hΓ (ci := 3) (kf := 0) rfl (Nat.le_of_ble_eq_true rfl) q250 dX1_spread_36) ha15 e1 ?_
      refine xw_if (show xm_Imp g Γ 39 (xi_if (fun x => x = 0) 45 42) from xs_if_eq hΓ dX1_spread_39 (by decide)) (fun c => ?_) (fun c => ?_)
      · rw [if_pos c] at e
        exact xm_lx (hB_45 _ _ _ _ _ e) (And.intro rfl (And.intro rfl (And.intro rfl (And.intro rfl (trivial)))))
      · rw [if_neg c] at e
        refine xw_inc (v := (1)) (ls' := [none, some (.int (s.1 + 1)), some (va_rf l2), some (.int l3), some (.int s.2.1), some (va_rf v14)]) (show xm_Imp g Γ 42 (xi_inc 1 (1) 45) from xs_iinc hΓ dX1_spread_42 (by decide) (Nat.le_of_ble_eq_true rfl)) rfl rfl ?_
        exact xm_lx (hB_45 _ _ _ _ _ e) (And.intro rfl (And.intro rfl (And.intro rfl (And.intro rfl (trivial)))))
  unfold F_X1_spread at e
  refine xw_psh (v := (.int (0))) (show xm_Imp g Γ 0 (xi_psh (.int (0)) 1) from xs_iconst hΓ dX1_spread_0 (by decide)) ?_
  refine xw_ist (ls' := [some (.ref p0), some (.int 0), none, none, none, none]) (show xm_Imp g Γ 1 (xi_ist 1 2) from xs_istore_n hΓ dX1_spread_1 (Nat.le_of_ble_eq_true rfl)) rfl ?_
  refine xw_ald (show xm_Imp g Γ 2 (xi_ald 0 3) from xs_aload_n hΓ dX1_spread_2) rfl ?_
  obtain ⟨v1, e1, e⟩ := e
  refine xw_gr1 (o := (some p0)) (show xm_Imp g Γ 3 (xi_get 0 0 6) from xs_get hG hΓ (ci := 0) (kf := 0) rfl (Nat.le_of_ble_eq_true rfl) q343 dX1_spread_3) rfl e1 ?_
  obtain ⟨a2, ha2, e⟩ := e
  obtain ⟨v3, e1, e⟩ := e
  refine xw_gr1 (o := v1) (show xm_Imp g Γ 6 (xi_get 1 0 9) from xs_getN hG hΓ (ci := 1) (kf := 0) rfl (Nat.le_of_ble_eq_true rfl) q276 dX1_spread_6) ha2 e1 ?_
  obtain ⟨a4, ha4, e⟩ := e
  obtain ⟨_, e0, e⟩ := e
  obtain ⟨m5, m6, ⟨em1, em2⟩, e⟩ := e
  refine xw_tvr0 (o := v3) (show xm_Imp g Γ 9 (xi_vir g 2 M_X3_canonical 6 0 12) from xs_invV hG hΓ k_X3_canonical rfl (ci := 2) rfl q1602 q1603 q1604 dX1_spread_9) (by simp [xm_stk, xv_cat, xc_int, xc_long, xc_float, xc_double, xc_ref]) ha4 e0 em1 em2 (K_X3_canonical hG a4 _ _ _ e) (fun v8 h7 e => ?_)
  obtain ⟨a9, ha9, e⟩ := e
  obtain ⟨v10, e1, e⟩ := e
  refine xw_gr1 (o := v8) (show xm_Imp g Γ 12 (xi_get 2 0 15) from xs_getN hG hΓ (ci := 2) (kf := 0) rfl (Nat.le_of_ble_eq_true rfl) q271 dX1_spread_12) ha9 e1 ?_
  refine xw_asto (x := v10) (ls' := [some (.ref p0), some (.int 0), some (va_rf v10), none, none, none]) (show xm_Imp g Γ 15 (xi_ast 2 16) from xs_astore_n hΓ dX1_spread_15 (Nat.le_of_ble_eq_true rfl)) rfl ?_
  refine xw_aldo (x := v10) (show xm_Imp g Γ 16 (xi_ald 2 17) from xs_aload_n hΓ dX1_spread_16) rfl ?_
  obtain ⟨a11, ha11, e⟩ := e
  obtain ⟨v12, e1, e⟩ := e
  refine xw_hlen (o := v10) (show xm_Imp g Γ 17 (xi_len 18) from xs_len hG hΓ dX1_spread_17) ha11 e1 ?_
  refine xw_ist (ls' := [some (.ref p0), some (.int 0), some (va_rf v10), some (.int v12), none, none]) (show xm_Imp g Γ 18 (xi_ist 3 19) from xs_istore_n hΓ dX1_spread_18 (Nat.le_of_ble_eq_true rfl)) ((xm_s1_o (o := v10) rfl).trans rfl) ?_
  refine xw_psh (v := (.int (0))) (show xm_Imp g Γ 19 (xi_psh (.int (0)) 20) from xs_iconst hΓ dX1_spread_19 (by decide)) ?_
  refine xw_ist (ls' := [some (.ref p0), some (.int 0), some (va_rf v10), some (.int v12), some (.int 0), none]) (show xm_Imp g Γ 20 (xi_ist 4 22) from xs_istore hΓ dX1_spread_20 (Nat.le_of_ble_eq_true rfl)) rfl ?_
  exact xm_lx (hL_22 _ _ _ e) (And.intro rfl (And.intro rfl (And.intro rfl (And.intro rfl (trivial)))))
noncomputable def B_X1_agrees_62 (g : xm_G) (l1 : Int32) (l2 : Option Nat) (l3 : Int32) (l4 : Int32) (h : xm_H) : Option ((Int32) ⊕ (Int32)) :=
 some (Sum.inl (l4 + 1))
noncomputable def B_X1_agrees_52 (g : xm_G) (l1 : Int32) (l2 : Option Nat) (l3 : Int32) (l4 : Int32) (l5 : Option Nat) (s0 : Int32) (h : xm_H) : Option ((Int32) ⊕ (Int32)) :=
 xo_b l5 (fun a10 =>
 xo_b (xh_fi [(3, 2)] h a10) (fun v11 =>
 (if s0 = v11 then
 B_X1_agrees_62 g l1 l2 l3 l4 h else
 xl_o (some 0))))
noncomputable def D_X1_agrees_11 (g : xm_G) (l1 : Int32) (l2 : Option Nat) (l3 : Int32) (h : xm_H) (s : Int32) : Option ((Int32) ⊕ (Int32)) :=
 (if l3 ≤ s then
 xl_o (some 1) else
 xo_b l2 (fun a5 =>
 xo_b (xh_ar "StringTableau$Row" h a5 s) (fun v6 =>
 xo_b v6 (fun a7 =>
 xo_b (xh_fi [(3, 0)] h a7) (fun v8 =>
 (if v8 = 0 then
 xo_b (xh_fi [(3, 1)] h a7) (fun v9 =>
 B_X1_agrees_52 g l1 l2 l3 s v6 (if ((F_J17_bitCount (v9 &&& l1)) - (F_J17_bitCount (v9 &&& l1)) / 2 * 2) = (1 : Int32) then 1 else 0) h) else
 B_X1_agrees_62 g l1 l2 l3 s h))))))
noncomputable def L_X1_agrees_11 (g : xm_G) (l1 : Int32) (l2 : Option Nat) (l3 : Int32) (h : xm_H) (s : Int32) : Option (Int32) := xl_loop (D_X1_agrees_11 g l1 l2 l3 h) s
noncomputable def F_X1_agrees (g : xm_G) (p0 : Option Nat) (p1 : Int32) (h : xm_H) : Option (Int32) :=
 xo_b p0 (fun a1 =>
 xo_b (xh_fr [(2, 0)] h a1) (fun v2 =>
 xo_b v2 (fun a3 =>
 xo_b (xh_len h a3) (fun v4 =>
 L_X1_agrees_11 g p1 v2 v4 h 0))))
set_option maxHeartbeats 4000000 in
theorem K_X1_agrees {g : xm_G} (hG : xm_Gw g) (p0 : Option Nat) (p1 : Int32) (h : xm_H) {o : Int32} (e : F_X1_agrees g p0 p1 h = some o) {Q : xm_P} {X : xm_X} (hQ : Q (some (.int o)) h) : xm_Run g M_X1_agrees 2 [va_rf p0, .int p1] h 0 0 Q X := by
  refine xm_Run.of2 (ls := [some (va_rf p0), some (.int p1), none, none, none, none]) pn_StringTableau (by cases p0 <;> exact Nat.le_of_ble_eq_true rfl) (by cases p0 <;> rfl) (fun Γ hΓ => ?_)
  obtain ⟨P0, hP0, hp⟩ : ∃ P : Int32 → Prop, (∀ o, P o → Q (some (.int o)) h) ∧ P o := ⟨fun o => Q (some (.int o)) h, fun _ h => h, hQ⟩
  clear hQ
  show xm_W g Γ 0 [some (va_rf p0), some (.int p1), none, none, none, none] [] h 0 0
  have hL_11 : ∀ (l1 : Int32) (l2 : Option Nat) (l3 : Int32) (s : Int32) (o : Int32), L_X1_agrees_11 g l1 l2 l3 h s = some o → P0 o → xm_W g Γ 11 [none, some (.int l1), some (va_rf l2), some (.int l3), some (.int s), none] [] h 0 0 := by
    intro l1 l2 l3
    refine xl_rule (WS := fun s : Int32 => xm_W g Γ 11 [none, some (.int l1), some (va_rf l2), some (.int l3), some (.int s), none] [] h 0 0) ?_
    intro s o e hp
    obtain ⟨P1, hP1, hp⟩ : ∃ P : (Int32) ⊕ (Int32) → Prop, (∀ o, P o → xl_P (fun s : Int32 => xm_W g Γ 11 [none, some (.int l1), some (va_rf l2), some (.int l3), some (.int s), none] [] h 0 0) P0 o) ∧ P o := ⟨_, fun _ h => h, hp⟩
    have hB_62 : ∀ (l4 : Int32) (o : (Int32) ⊕ (Int32)), B_X1_agrees_62 g l1 l2 l3 l4 h = some o → P1 o → xm_W g Γ 62 [none, some (.int l1), some (va_rf l2), some (.int l3), some (.int l4), none] [] h 0 0 := by
      intro l4 o e hp
      unfold B_X1_agrees_62 at e
      refine xw_inc (v := (1)) (ls' := [none, some (.int l1), some (va_rf l2), some (.int l3), some (.int (l4 + 1)), none]) (show xm_Imp g Γ 62 (xi_inc 4 (1) 65) from xs_iinc hΓ dX1_agrees_62 (by decide) (Nat.le_of_ble_eq_true rfl)) rfl rfl ?_
      refine xw_goto (show xm_Imp g Γ 65 (xi_goto 11) from xs_goto hΓ dX1_agrees_65 (by decide)) ?_
      have hq := xl_P_inl (hP1 _ (xl_fin e hp)); exact hq
    have hB_52 : ∀ (l4 : Int32) (l5 : Option Nat) (s0 : Int32) (o : (Int32) ⊕ (Int32)), B_X1_agrees_52 g l1 l2 l3 l4 l5 s0 h = some o → P1 o → xm_W g Γ 52 [none, some (.int l1), some (va_rf l2), some (.int l3), some (.int l4), some (va_rf l5)] [.int s0] h 0 0 := by
      intro l4 l5 s0 o e hp
      unfold B_X1_agrees_52 at e
      refine xw_aldo (x := l5) (show xm_Imp g Γ 52 (xi_ald 5 54) from xs_aload hΓ dX1_agrees_52) rfl ?_
      obtain ⟨a10, ha10, e⟩ := xo_b_s e
      obtain ⟨v11, e1, e⟩ := xo_b_s e
      refine xw_gi1 (o := l5) (show xm_Imp g Γ 54 (xi_get 3 2 57) from xs_getN hG hΓ (ci := 3) (kf := 2) rfl (Nat.le_of_ble_eq_true rfl) q259 dX1_agrees_54) ha10 e1 ?_
      refine xw_ic (show xm_Imp g Γ 57 (xi_ic (fun x y => x = y) 62 60) from xs_icmp_eq hΓ dX1_agrees_57 (by decide)) (fun c => ?_) (fun c => ?_)
      · rw [if_pos c] at e
        exact xm_lx (hB_62 _ _ e hp) (And.intro rfl (And.intro rfl (And.intro rfl (And.intro rfl (trivial)))))
      · rw [if_neg c] at e
        obtain ⟨_, e, hp⟩ := xl_o_s e (hP1 _ hp)
        refine xw_psh (v := (.int (0))) (show xm_Imp g Γ 60 (xi_psh (.int (0)) 61) from xs_iconst hΓ dX1_agrees_60 (by decide)) ?_
        have hq := hP0 _ (xl_fin e hp)
        exact xw_iret (show xm_Imp g Γ 61 (xi_iret .boolean _) from xs_ireturn hΓ rfl dX1_agrees_61) rfl hq
    unfold D_X1_agrees_11 at e
    refine xw_ild (show xm_Imp g Γ 11 (xi_ild 4 13) from xs_iload hΓ dX1_agrees_11) rfl ?_
    refine xw_ild (show xm_Imp g Γ 13 (xi_ild 3 14) from xs_iload_n hΓ dX1_agrees_13) rfl ?_
    refine xw_ic (show xm_Imp g Γ 14 (xi_ic (fun x y => y ≤ x) 68 17) from xs_icmp_ge hΓ dX1_agrees_14 (by decide)) (fun c => ?_) (fun c => ?_)
    · rw [if_pos c] at e
      obtain ⟨_, e, hp⟩ := xl_o_s e (hP1 _ hp)
      refine xw_psh (v := (.int (1))) (show xm_Imp g Γ 68 (xi_psh (.int (1)) 69) from xs_iconst hΓ dX1_agrees_68 (by decide)) ?_
      have hq := hP0 _ (xl_fin e hp)
      exact xw_iret (show xm_Imp g Γ 69 (xi_iret .boolean _) from xs_ireturn hΓ rfl dX1_agrees_69) rfl hq
    · rw [if_neg c] at e
      refine xw_aldo (x := l2) (show xm_Imp g Γ 17 (xi_ald 2 18) from xs_aload_n hΓ dX1_agrees_17) rfl ?_
      refine xw_ild (show xm_Imp g Γ 18 (xi_ild 4 20) from xs_iload hΓ dX1_agrees_18) rfl ?_
      obtain ⟨a5, ha5, e⟩ := xo_b_s e
      obtain ⟨v6, e1, e⟩ := xo_b_s e
      refine xw_haal (o := l2) (show xm_Imp g Γ 20 (xi_aal "StringTableau$Row" 21) from xs_aal hG hΓ dX1_agrees_20) ha5 e1 ?_
      refine xw_asto (x := v6) (ls' := [none, some (.int l1), some (va_rf l2), some (.int l3), some (.int s), some (va_rf v6)]) (show xm_Imp g Γ 21 (xi_ast 5 23) from xs_astore hΓ dX1_agrees_21 (Nat.le_of_ble_eq_true rfl)) rfl ?_
      refine xw_aldo (x := v6) (show xm_Imp g Γ 23 (xi_ald 5 25) from xs_aload hΓ dX1_agrees_23) rfl ?_
      obtain ⟨a7, ha7, e⟩ := xo_b_s e
      obtain ⟨v8, e1, e⟩ := xo_b_s e
      refine xw_gi1 (o := v6) (show xm_Imp g Γ 25 (xi_get 3 0 28) from xs_getN hG hΓ (ci := 3) (kf := 0) rfl (Nat.le_of_ble_eq_true rfl) q250 dX1_agrees_25) ha7 e1 ?_
      refine xw_if (show xm_Imp g Γ 28 (xi_if (fun x => x = 0) 31 62) from xs_if_ne hΓ dX1_agrees_28 (by decide)) (fun c => ?_) (fun c => ?_)
      · rw [if_pos c] at e
        refine xw_aldo (x := v6) (show xm_Imp g Γ 31 (xi_ald 5 33) from xs_aload hΓ dX1_agrees_31) rfl ?_
        obtain ⟨v9, e1, e⟩ := xo_b_s e
        refine xw_gi1 (o := v6) (show xm_Imp g Γ 33 (xi_get 3 1 36) from xs_getN hG hΓ (ci := 3) (kf := 1) rfl (Nat.le_of_ble_eq_true rfl) q255 dX1_agrees_33) ha7 e1 ?_
        refine xw_ild (show xm_Imp g Γ 36 (xi_ild 1 37) from xs_iload_n hΓ dX1_agrees_36) rfl ?_
        refine xw_ii (show xm_Imp g Γ 37 (xi_ii (fun x y => x &&& y) 38) from xs_iand hΓ dX1_agrees_37) ?_
        refine xw_sv1 (show xm_Imp g Γ 38 (xi_inv g M_J17_bitCount 1 1 41) from xs_invS hG hΓ k_J17_bitCount rfl q1209 q1210 dX1_agrees_38) rfl (fun Q X hQ => K_J17_bitCount hG (v9 &&& l1) rfl hQ) ?_
        refine xw_psh (v := (.int (2))) (show xm_Imp g Γ 41 (xi_psh (.int (2)) 42) from xs_iconst hΓ dX1_agrees_41 (by decide)) ?_
        refine xw_id (show xm_Imp g Γ 42 (xi_id (fun x y => x - x / y * y) 43) from xs_irem hΓ dX1_agrees_42) (by decide) ?_
        refine xw_psh (v := (.int (1))) (show xm_Imp g Γ 43 (xi_psh (.int (1)) 44) from xs_iconst hΓ dX1_agrees_43 (by decide)) ?_
        refine xw_ic (show xm_Imp g Γ 44 (xi_ic (fun x y => x = y) 47 51) from xs_icmp_ne hΓ dX1_agrees_44 (by decide)) (fun c => ?_) (fun c => ?_)
        · rw [if_pos c] at e
          refine xw_psh (v := (.int (1))) (show xm_Imp g Γ 47 (xi_psh (.int (1)) 48) from xs_iconst hΓ dX1_agrees_47 (by decide)) ?_
          refine xw_goto (show xm_Imp g Γ 48 (xi_goto 52) from xs_goto hΓ dX1_agrees_48 (by decide)) ?_
          exact hB_52 _ _ _ _ e hp
        · rw [if_neg c] at e
          refine xw_psh (v := (.int (0))) (show xm_Imp g Γ 51 (xi_psh (.int (0)) 52) from xs_iconst hΓ dX1_agrees_51 (by decide)) ?_
          exact hB_52 _ _ _ _ e hp
      · rw [if_neg c] at e
        exact xm_lx (hB_62 _ _ e hp) (And.intro rfl (And.intro rfl (And.intro rfl (And.intro rfl (trivial)))))
  unfold F_X1_agrees at e
  refine xw_aldo (x := p0) (show xm_Imp g Γ 0 (xi_ald 0 1) from xs_aload_n hΓ dX1_agrees_0) rfl ?_
  obtain ⟨a1, ha1, e⟩ := xo_b_s e
  obtain ⟨v2, e1, e⟩ := xo_b_s e
  refine xw_gr1 (o := p0) (show xm_Imp g Γ 1 (xi_get 2 0 4) from xs_getN hG hΓ (ci := 2) (kf := 0) rfl (Nat.le_of_ble_eq_true rfl) q271 dX1_agrees_1) ha1 e1 ?_
  refine xw_asto (x := v2) (ls' := [some (va_rf p0), some (.int p1), some (va_rf v2), none, none, none]) (show xm_Imp g Γ 4 (xi_ast 2 5) from xs_astore_n hΓ dX1_agrees_4 (Nat.le_of_ble_eq_true rfl)) rfl ?_
  refine xw_aldo (x := v2) (show xm_Imp g Γ 5 (xi_ald 2 6) from xs_aload_n hΓ dX1_agrees_5) rfl ?_
  obtain ⟨a3, ha3, e⟩ := xo_b_s e
  obtain ⟨v4, e1, e⟩ := xo_b_s e
  refine xw_hlen (o := v2) (show xm_Imp g Γ 6 (xi_len 7) from xs_len hG hΓ dX1_agrees_6) ha3 e1 ?_
  refine xw_ist (ls' := [some (va_rf p0), some (.int p1), some (va_rf v2), some (.int v4), none, none]) (show xm_Imp g Γ 7 (xi_ist 3 8) from xs_istore_n hΓ dX1_agrees_7 (Nat.le_of_ble_eq_true rfl)) ((xm_s1_o (o := v2) rfl).trans rfl) ?_
  refine xw_psh (v := (.int (0))) (show xm_Imp g Γ 8 (xi_psh (.int (0)) 9) from xs_iconst hΓ dX1_agrees_8 (by decide)) ?_
  refine xw_ist (ls' := [some (va_rf p0), some (.int p1), some (va_rf v2), some (.int v4), some (.int 0), none]) (show xm_Imp g Γ 9 (xi_ist 4 11) from xs_istore hΓ dX1_agrees_9 (Nat.le_of_ble_eq_true rfl)) rfl ?_
  exact xm_lx (hL_11 _ _ _ _ _ e hp) (And.intro rfl (And.intro rfl (And.intro rfl (And.intro rfl (trivial)))))
noncomputable def B_X1_possible_53 (g : xm_G) (l0 : Nat) (l1 : Int32) (l2 : Option Nat) (l3 : Int32) (l4 : Int32) (h : xm_H) (bc : Nat) (bs : Nat) (k16 : Int32 × Int32 × xm_H × Nat × Nat → Prop) (Q : Int32 → xm_H → Prop) : Prop :=
 k16 (l3, (l4 + 1), h, bc, bs)
noncomputable def D_X1_possible_16 (g : xm_G) (l0 : Nat) (l1 : Int32) (l2 : Option Nat) (Q : Int32 → xm_H → Prop) (k16 : Int32 × Int32 × xm_H × Nat × Nat → Prop) (s : Int32 × Int32 × xm_H × Nat × Nat) : Prop :=
 xt_b (xh_is 0 s.2.2.1 l0) (fun _ =>
 xt_b (F_X1_qubits g l0 s.2.2.1) (fun v9 =>
 (if (1 <<< (v9 &&& 31)) ≤ s.2.1 then
 Q (-1) s.2.2.1 else
 (if l1 < 0 then
 Q (-1) s.2.2.1 else
 xt_b (F_X1_agrees g l2 s.2.1 s.2.2.1) (fun v10 =>
 (if v10 = 0 then
 B_X1_possible_53 g l0 l1 l2 s.1 s.2.1 s.2.2.1 s.2.2.2.1 s.2.2.2.2 k16 Q else
 (if s.1 = 0 then
 Q s.2.1 s.2.2.1 else
 B_X1_possible_53 g l0 l1 l2 (s.1 + (-1)) s.2.1 s.2.2.1 s.2.2.2.1 s.2.2.2.2 k16 Q)))))))
noncomputable def L_X1_possible_16 (g : xm_G) (l0 : Nat) (l1 : Int32) (l2 : Option Nat) (Q : Int32 → xm_H → Prop) (s : Int32 × Int32 × xm_H × Nat × Nat) : Prop := xt_loop (D_X1_possible_16 g l0 l1 l2 Q) s
noncomputable def F_X1_possible (g : xm_G) (p0 : Nat) (p1 : Int32) (h : xm_H) (bc : Nat) (bs : Nat) (Q : Int32 → xm_H → Prop) : Prop :=
 xt_b (xh_fr [(0, 0)] h p0) (fun v1 =>
 xt_b v1 (fun a2 =>
 xt_b (xh_fr [(1, 0)] h a2) (fun v3 =>
 xt_b v3 (fun a4 =>
 xt_b (xh_is 2 h a4) (fun _ =>
 xt_c bc bs (fun m5 m6 => F_X3_canonical g a4 h m5 m6 (fun v8 h7 =>
 L_X1_possible_16 g p0 p1 v8 Q (p1, 0, h7, (bc - m5), (bs - m6)))))))))
set_option maxHeartbeats 4000000 in
theorem K_X1_possible {g : xm_G} (hG : xm_Gw g) (p0 : Nat) (p1 : Int32) (h : xm_H) (bc : Nat) (bs : Nat) {Q : Int32 → xm_H → Prop} (e : F_X1_possible g p0 p1 h bc bs Q) : xm_Run g M_X1_possible 7 [.ref p0, .int p1] h bc bs (fun v h' => ∃ r, v = some (.int r) ∧ Q r h') xm_no := by
  refine xm_Run.of pn_StringTableau (Nat.le_of_ble_eq_true rfl) (fun Γ hΓ => ?_)
  show xm_W g Γ 0 [some (.ref p0), some (.int p1), none, none, none] [] h bc bs
  have hL_16 : ∀ (l0 : Nat) (l1 : Int32) (l2 : Option Nat) (s : Int32 × Int32 × xm_H × Nat × Nat), L_X1_possible_16 g l0 l1 l2 Q s → xm_W g Γ 16 [some (.ref l0), some (.int l1), some (va_rf l2), some (.int s.1), some (.int s.2.1)] [] s.2.2.1 s.2.2.2.1 s.2.2.2.2 := by
    intro l0 l1 l2
    refine xt_rule (WS := fun s : Int32 × Int32 × xm_H × Nat × Nat => xm_W g Γ 16 [some (.ref l0), some (.int l1), some (va_rf l2), some (.int s.1), some (.int s.2.1)] [] s.2.2.1 s.2.2.2.1 s.2.2.2.2) ?_
    intro k16 hk16 s e
    have hB_53 : ∀ (l3 : Int32) (l4 : Int32) (h : xm_H) (bc : Nat) (bs : Nat), B_X1_possible_53 g l0 l1 l2 l3 l4 h bc bs k16 Q → xm_W g Γ 53 [some (.ref l0), some (.int l1), some (va_rf l2), some (.int l3), some (.int l4)] [] h bc bs := by
      intro l3 l4 h bc bs e
      unfold B_X1_possible_53 at e
      refine xw_inc (v := (1)) (ls' := [some (.ref l0), some (.int l1), some (va_rf l2), some (.int l3), some (.int (l4 + 1))]) (show xm_Imp g Γ 53 (xi_inc 4 (1) 56) from xs_iinc hΓ dX1_possible_53 (by decide) (Nat.le_of_ble_eq_true rfl)) rfl rfl ?_
      refine xw_goto (show xm_Imp g Γ 56 (xi_goto 16) from xs_goto hΓ dX1_possible_56 (by decide)) ?_
      have hq := hk16 _ e; exact hq
    unfold D_X1_possible_16 at e
    refine xw_ild (show xm_Imp g Γ 16 (xi_ild 4 18) from xs_iload hΓ dX1_possible_16) rfl ?_
    refine xw_psh (v := (.int (1))) (show xm_Imp g Γ 18 (xi_psh (.int (1)) 19) from xs_iconst hΓ dX1_possible_18 (by decide)) ?_
    refine xw_ald (show xm_Imp g Γ 19 (xi_ald 0 20) from xs_aload_n hΓ dX1_possible_19) rfl ?_
    obtain ⟨_, e0, e⟩ := e
    obtain ⟨v9, e1, e⟩ := e
    refine xw_hv0 (o := (some l0)) (show xm_Imp g Γ 20 (xi_vir g 0 M_X1_qubits 1 0 23) from xs_invV hG hΓ k_X1_qubits rfl (ci := 0) rfl q1139 q1141 qs20 dX1_possible_20) rfl rfl e0 (fun Q X hQ => K_X1_qubits hG l0 _ e1 hQ) ?_
    refine xw_ii (show xm_Imp g Γ 23 (xi_ii (fun x y => x <<< (y &&& 31)) 24) from xs_ishl hΓ dX1_possible_23) ?_
    refine xw_ic (show xm_Imp g Γ 24 (xi_ic (fun x y => y ≤ x) 59 27) from xs_icmp_ge hΓ dX1_possible_24 (by decide)) (fun c => ?_) (fun c => ?_)
    · rw [if_pos c] at e
      refine xw_psh (v := (.int (-1))) (show xm_Imp g Γ 59 (xi_psh (.int (-1)) 60) from xs_iconst hΓ dX1_possible_59 (by decide)) ?_
      exact xw_iret (show xm_Imp g Γ 60 (xi_iret .int _) from xs_ireturn hΓ rfl dX1_possible_60) (xn_int _) ⟨_, rfl, e⟩
    · rw [if_neg c] at e
      refine xw_ild (show xm_Imp g Γ 27 (xi_ild 1 28) from xs_iload_n hΓ dX1_possible_27) rfl ?_
      refine xw_if (show xm_Imp g Γ 28 (xi_if (fun x => x < 0) 59 31) from xs_if_lt hΓ dX1_possible_28 (by decide)) (fun c => ?_) (fun c => ?_)
      · rw [if_pos c] at e
        refine xw_psh (v := (.int (-1))) (show xm_Imp g Γ 59 (xi_psh (.int (-1)) 60) from xs_iconst hΓ dX1_possible_59 (by decide)) ?_
        exact xw_iret (show xm_Imp g Γ 60 (xi_iret .int _) from xs_ireturn hΓ rfl dX1_possible_60) (xn_int _) ⟨_, rfl, e⟩
      · rw [if_neg c] at e
        refine xw_aldo (x := l2) (show xm_Imp g Γ 31 (xi_ald 2 32) from xs_aload_n hΓ dX1_possible_31) rfl ?_
        refine xw_ild (show xm_Imp g Γ 32 (xi_ild 4 34) from xs_iload hΓ dX1_possible_32) rfl ?_
        obtain ⟨v10, e1, e⟩ := e
        refine xw_sv2 (show xm_Imp g Γ 34 (xi_inv g M_X1_agrees 2 2 37) from xs_invS hG hΓ k_X1_agrees rfl q1689 q1690 dX1_possible_34) rfl (fun Q X hQ => K_X1_agrees hG l2 s.2.1 _ e1 hQ) ?_
        refine xw_if (show xm_Imp g Γ 37 (xi_if (fun x => x = 0) 40 43) from xs_if_ne hΓ dX1_possible_37 (by decide)) (fun c => ?_) (fun c => ?_)
        · rw [if_pos c] at e
          refine xw_goto (show xm_Imp g Γ 40 (xi_goto 53) from xs_goto hΓ dX1_possible_40 (by decide)) ?_
          exact hB_53 _ _ _ _ _ e
        · rw [if_neg c] at e
          refine xw_ild (show xm_Imp g Γ 43 (xi_ild 3 44) from xs_iload_n hΓ dX1_possible_43) rfl ?_
          refine xw_if (show xm_Imp g Γ 44 (xi_if (fun x => x = 0) 47 50) from xs_if_ne hΓ dX1_possible_44 (by decide)) (fun c => ?_) (fun c => ?_)
          · rw [if_pos c] at e
            refine xw_ild (show xm_Imp g Γ 47 (xi_ild 4 49) from xs_iload hΓ dX1_possible_47) rfl ?_
            exact xw_iret (show xm_Imp g Γ 49 (xi_iret .int _) from xs_ireturn hΓ rfl dX1_possible_49) (xn_int _) ⟨_, rfl, e⟩
          · rw [if_neg c] at e
            refine xw_inc (v := (-1)) (ls' := [some (.ref l0), some (.int l1), some (va_rf l2), some (.int (s.1 + (-1))), some (.int s.2.1)]) (show xm_Imp g Γ 50 (xi_inc 3 (-1) 53) from xs_iinc hΓ dX1_possible_50 (by decide) (Nat.le_of_ble_eq_true rfl)) rfl ((xm_s1_o (o := l2) rfl).trans rfl) ?_
            exact hB_53 _ _ _ _ _ e
  unfold F_X1_possible at e
  refine xw_ald (show xm_Imp g Γ 0 (xi_ald 0 1) from xs_aload_n hΓ dX1_possible_0) rfl ?_
  obtain ⟨v1, e1, e⟩ := e
  refine xw_gr1 (o := (some p0)) (show xm_Imp g Γ 1 (xi_get 0 0 4) from xs_get hG hΓ (ci := 0) (kf := 0) rfl (Nat.le_of_ble_eq_true rfl) q343 dX1_possible_1) rfl e1 ?_
  obtain ⟨a2, ha2, e⟩ := e
  obtain ⟨v3, e1, e⟩ := e
  refine xw_gr1 (o := v1) (show xm_Imp g Γ 4 (xi_get 1 0 7) from xs_getN hG hΓ (ci := 1) (kf := 0) rfl (Nat.le_of_ble_eq_true rfl) q276 dX1_possible_4) ha2 e1 ?_
  obtain ⟨a4, ha4, e⟩ := e
  obtain ⟨_, e0, e⟩ := e
  obtain ⟨m5, m6, ⟨em1, em2⟩, e⟩ := e
  refine xw_tvr0 (o := v3) (show xm_Imp g Γ 7 (xi_vir g 2 M_X3_canonical 6 0 10) from xs_invV hG hΓ k_X3_canonical rfl (ci := 2) rfl q1602 q1603 q1604 dX1_possible_7) (by simp [xm_stk, xv_cat, xc_int, xc_long, xc_float, xc_double, xc_ref]) ha4 e0 em1 em2 (K_X3_canonical hG a4 _ _ _ e) (fun v8 h7 e => ?_)
  refine xw_asto (x := v8) (ls' := [some (.ref p0), some (.int p1), some (va_rf v8), none, none]) (show xm_Imp g Γ 10 (xi_ast 2 11) from xs_astore_n hΓ dX1_possible_10 (Nat.le_of_ble_eq_true rfl)) rfl ?_
  refine xw_ild (show xm_Imp g Γ 11 (xi_ild 1 12) from xs_iload_n hΓ dX1_possible_11) rfl ?_
  refine xw_ist (ls' := [some (.ref p0), some (.int p1), some (va_rf v8), some (.int p1), none]) (show xm_Imp g Γ 12 (xi_ist 3 13) from xs_istore_n hΓ dX1_possible_12 (Nat.le_of_ble_eq_true rfl)) ((xm_s1_o (o := v8) rfl).trans rfl) ?_
  refine xw_psh (v := (.int (0))) (show xm_Imp g Γ 13 (xi_psh (.int (0)) 14) from xs_iconst hΓ dX1_possible_13 (by decide)) ?_
  refine xw_ist (ls' := [some (.ref p0), some (.int p1), some (va_rf v8), some (.int p1), some (.int 0)]) (show xm_Imp g Γ 14 (xi_ist 4 16) from xs_istore hΓ dX1_possible_14 (Nat.le_of_ble_eq_true rfl)) rfl ?_
  exact hL_16 _ _ _ _ e
noncomputable def F_J10_fill_2 (g : xm_G) (p0 : Option Nat) (p1 : Int32) (p2 : Int32) (p3 : Int32) (h : xm_H) : Option (Unit) :=
 xo_b p0 (fun a1 =>
 xo_b (xh_len h a1) (fun v2 =>
 none))
set_option maxHeartbeats 4000000 in
theorem K_J10_fill_2 {g : xm_G} (hG : xm_Gw g) (p0 : Option Nat) (p1 : Int32) (p2 : Int32) (p3 : Int32) (h : xm_H) {o : Unit} (e : F_J10_fill_2 g p0 p1 p2 p3 h = some o) {Q : xm_P} {X : xm_X} (hQ : Q none h) : xm_Run g M_J10_fill_2 1 [va_rf p0, .int p1, .int p2, .int p3] h 0 0 Q X := by
  refine xm_Run.of2 (ls := [some (va_rf p0), some (.int p1), some (.int p2), some (.int p3), none]) pn_java_util_Arrays (by cases p0 <;> exact Nat.le_of_ble_eq_true rfl) (by cases p0 <;> rfl) (fun Γ hΓ => ?_)
  obtain ⟨P0, hP0, hp⟩ : ∃ P : Unit → Prop, (∀ o, P o → Q none h) ∧ P o := ⟨fun o => Q none h, fun _ h => h, hQ⟩
  clear hQ
  show xm_W g Γ 0 [some (va_rf p0), some (.int p1), some (.int p2), some (.int p3), none] [] h 0 0
  unfold F_J10_fill_2 at e
  refine xw_aldo (x := p0) (show xm_Imp g Γ 0 (xi_ald 0 1) from xs_aload_n hΓ dJ10_fill_2_0) rfl ?_
  obtain ⟨a1, ha1, e⟩ := xo_b_s e
  obtain ⟨v2, e1, e⟩ := xo_b_s e
  refine xw_hlen (o := p0) (show xm_Imp g Γ 1 (xi_len 2) from xs_len hG hΓ dJ10_fill_2_1) ha1 e1 ?_
  refine xw_ild (show xm_Imp g Γ 2 (xi_ild 1 3) from xs_iload_n hΓ dJ10_fill_2_2) rfl ?_
  refine xw_ild (show xm_Imp g Γ 3 (xi_ild 2 4) from xs_iload_n hΓ dJ10_fill_2_3) rfl ?_
  cases e
noncomputable def F_J11_fillNull (g : xm_G) (p0 : Option Nat) (p1 : Int32) (p2 : Int32) (h : xm_H) : Option (Unit) :=
 xo_b (F_J10_fill_2 g p0 p1 p2 0 h) (fun v1 =>
 some ())
set_option maxHeartbeats 4000000 in
theorem K_J11_fillNull {g : xm_G} (hG : xm_Gw g) (p0 : Option Nat) (p1 : Int32) (p2 : Int32) (h : xm_H) {o : Unit} (e : F_J11_fillNull g p0 p1 p2 h = some o) {Q : xm_P} {X : xm_X} (hQ : Q none h) : xm_Run g M_J11_fillNull 2 [va_rf p0, .int p1, .int p2] h 0 0 Q X := by
  refine xm_Run.of2 (ls := [some (va_rf p0), some (.int p1), some (.int p2)]) pn_java_lang_StringLatin1 (by cases p0 <;> exact Nat.le_of_ble_eq_true rfl) (by cases p0 <;> rfl) (fun Γ hΓ => ?_)
  obtain ⟨P0, hP0, hp⟩ : ∃ P : Unit → Prop, (∀ o, P o → Q none h) ∧ P o := ⟨fun o => Q none h, fun _ h => h, hQ⟩
  clear hQ
  show xm_W g Γ 0 [some (va_rf p0), some (.int p1), some (.int p2)] [] h 0 0
  unfold F_J11_fillNull at e
  refine xw_aldo (x := p0) (show xm_Imp g Γ 0 (xi_ald 0 1) from xs_aload_n hΓ dJ11_fillNull_0) rfl ?_
  refine xw_ild (show xm_Imp g Γ 1 (xi_ild 1 2) from xs_iload_n hΓ dJ11_fillNull_1) rfl ?_
  refine xw_ild (show xm_Imp g Γ 2 (xi_ild 2 3) from xs_iload_n hΓ dJ11_fillNull_2) rfl ?_
  refine xw_psh (v := (.int (0))) (show xm_Imp g Γ 3 (xi_psh (.int (0)) 4) from xs_iconst hΓ dJ11_fillNull_3 (by decide)) ?_
  obtain ⟨v1, e1, e⟩ := xo_b_s e
  refine xw_su4 (show xm_Imp g Γ 4 (xi_inv g M_J10_fill_2 1 4 7) from xs_invS hG hΓ k_J10_fill_2 rfl q1728 q1729 dJ11_fillNull_4) rfl (fun Q X hQ => K_J10_fill_2 hG p0 p1 p2 0 _ e1 hQ) ?_
  exact xw_vret (show xm_Imp g Γ 7 (xi_vret _) from xs_return hΓ rfl dJ11_fillNull_7) (hP0 _ (xl_fin e hp))
noncomputable def B_J4_setLength_76 (g : xm_G) (l0 : Nat) (l1 : Int32) (h : xm_H) (bc : Nat) (bs : Nat) (Q : xm_H → Prop) : Prop :=
 xt_b (xh_w [(14, 3)] h l0 (.int l1)) (fun h7 =>
 Q h7)
noncomputable def F_J4_setLength (g : xm_G) (p0 : Nat) (p1 : Int32) (h : xm_H) (bc : Nat) (bs : Nat) (Q : xm_H → Prop) : Prop :=
 (if 0 ≤ p1 then
 xt_b (xh_is 14 h p0) (fun _ =>
 xt_c bc bs (fun m1 m2 => F_J4_ensureCapacityInternal g p0 p1 h m1 m2 (fun h3 =>
 xt_b (xh_fi [(14, 3)] h3 p0) (fun v5 =>
 (if p1 ≤ v5 then
 xt_b (xh_fi [(14, 3)] h3 p0) (fun v6 =>
 (if v6 ≤ p1 then
 B_J4_setLength_76 g p0 p1 h3 (bc - m1) (bs - m2) Q else
 xt_b (xh_w [(14, 2)] h3 p0 (.int 1)) (fun h8 =>
 B_J4_setLength_76 g p0 p1 h8 (bc - m1) (bs - m2) Q))) else
 xt_b (xh_is 14 h3 p0) (fun _ =>
 xt_b (F_J4_isLatin1 g p0 h3) (fun v9 =>
 (if v9 = 0 then
 xt_b (xh_fr [(14, 0)] h3 p0) (fun v10 =>
 xt_b (xh_fi [(14, 3)] h3 p0) (fun v11 =>
 False)) else
 xt_b (xh_fr [(14, 0)] h3 p0) (fun v12 =>
 xt_b (xh_fi [(14, 3)] h3 p0) (fun v13 =>
 xt_b (F_J11_fillNull g v12 v13 p1 h3) (fun v14 =>
 B_J4_setLength_76 g p0 p1 h3 (bc - m1) (bs - m2) Q))))))))))) else
 False)
set_option maxHeartbeats 4000000 in
theorem K_J4_setLength {g : xm_G} (hG : xm_Gw g) (p0 : Nat) (p1 : Int32) (h : xm_H) (bc : Nat) (bs : Nat) {Q : xm_H → Prop} (e : F_J4_setLength g p0 p1 h bc bs Q) : xm_Run g M_J4_setLength 10 [.ref p0, .int p1] h bc bs (fun v h' => v = none ∧ Q h') xm_no := by
  refine xm_Run.of pn_java_lang_AbstractStringBuilder (Nat.le_of_ble_eq_true rfl) (fun Γ hΓ => ?_)
  show xm_W g Γ 0 [some (.ref p0), some (.int p1)] [] h bc bs
  have hB_76 : ∀ (l0 : Nat) (l1 : Int32) (h : xm_H) (bc : Nat) (bs : Nat), B_J4_setLength_76 g l0 l1 h bc bs Q → xm_W g Γ 76 [some (.ref l0), some (.int l1)] [] h bc bs := by
    intro l0 l1 h bc bs e
    unfold B_J4_setLength_76 at e
    refine xw_ald (show xm_Imp g Γ 76 (xi_ald 0 77) from xs_aload_n hΓ dJ4_setLength_76) rfl ?_
    refine xw_ild (show xm_Imp g Γ 77 (xi_ild 1 78) from xs_iload_n hΓ dJ4_setLength_77) rfl ?_
    obtain ⟨h7, e1, e⟩ := e
    refine xw_pt1 (o := (some l0)) (show xm_Imp g Γ 78 (xi_put 14 3 (.int) 81) from xs_put hG hΓ (ci := 14) (kf := 3) rfl (Nat.le_of_ble_eq_true rfl) rfl (by decide +kernel) q332 dJ4_setLength_78) rfl (xf_int _) e1 ?_
    exact xw_vret (show xm_Imp g Γ 81 (xi_vret _) from xs_return hΓ rfl dJ4_setLength_81) ⟨rfl, e⟩
  unfold F_J4_setLength at e
  refine xw_ild (show xm_Imp g Γ 0 (xi_ild 1 1) from xs_iload_n hΓ dJ4_setLength_0) rfl ?_
  refine xw_if (show xm_Imp g Γ 1 (xi_if (fun x => 0 ≤ x) 13 4) from xs_if_ge hΓ dJ4_setLength_1 (by decide)) (fun c => ?_) (fun c => ?_)
  · rw [if_pos c] at e
    refine xw_ald (show xm_Imp g Γ 13 (xi_ald 0 14) from xs_aload_n hΓ dJ4_setLength_13) rfl ?_
    refine xw_ild (show xm_Imp g Γ 14 (xi_ild 1 15) from xs_iload_n hΓ dJ4_setLength_14) rfl ?_
    obtain ⟨_, e0, e⟩ := e
    obtain ⟨m1, m2, ⟨em1, em2⟩, e⟩ := e
    refine xw_tvu1 (o := (some p0)) (show xm_Imp g Γ 15 (xi_vir g 14 M_J4_ensureCapacityInternal 9 1 18) from xs_invVp hG hΓ k_J4_ensureCapacityInternal rfl (ci := 14) rfl q426 q428 q464 rfl q427 dJ4_setLength_15) rfl rfl e0 em1 em2 (K_J4_ensureCapacityInternal hG p0 p1 _ _ _ e) (fun h3 e => ?_)
    refine xw_ald (show xm_Imp g Γ 18 (xi_ald 0 19) from xs_aload_n hΓ dJ4_setLength_18) rfl ?_
    obtain ⟨v5, e1, e⟩ := e
    refine xw_gi1 (o := (some p0)) (show xm_Imp g Γ 19 (xi_get 14 3 22) from xs_get hG hΓ (ci := 14) (kf := 3) rfl (Nat.le_of_ble_eq_true rfl) q332 dJ4_setLength_19) rfl e1 ?_
    refine xw_ild (show xm_Imp g Γ 22 (xi_ild 1 23) from xs_iload_n hΓ dJ4_setLength_22) rfl ?_
    refine xw_ic (show xm_Imp g Γ 23 (xi_ic (fun x y => y ≤ x) 63 26) from xs_icmp_ge hΓ dJ4_setLength_23 (by decide)) (fun c => ?_) (fun c => ?_)
    · rw [if_pos c] at e
      refine xw_ald (show xm_Imp g Γ 63 (xi_ald 0 64) from xs_aload_n hΓ dJ4_setLength_63) rfl ?_
      obtain ⟨v6, e1, e⟩ := e
      refine xw_gi1 (o := (some p0)) (show xm_Imp g Γ 64 (xi_get 14 3 67) from xs_get hG hΓ (ci := 14) (kf := 3) rfl (Nat.le_of_ble_eq_true rfl) q332 dJ4_setLength_64) rfl e1 ?_
      refine xw_ild (show xm_Imp g Γ 67 (xi_ild 1 68) from xs_iload_n hΓ dJ4_setLength_67) rfl ?_
      refine xw_ic (show xm_Imp g Γ 68 (xi_ic (fun x y => x ≤ y) 76 71) from xs_icmp_le hΓ dJ4_setLength_68 (by decide)) (fun c => ?_) (fun c => ?_)
      · rw [if_pos c] at e
        exact hB_76 _ _ _ _ _ e
      · rw [if_neg c] at e
        refine xw_ald (show xm_Imp g Γ 71 (xi_ald 0 72) from xs_aload_n hΓ dJ4_setLength_71) rfl ?_
        refine xw_psh (v := (.int (1))) (show xm_Imp g Γ 72 (xi_psh (.int (1)) 73) from xs_iconst hΓ dJ4_setLength_72 (by decide)) ?_
        obtain ⟨h8, e1, e⟩ := e
        refine xw_pt1 (o := (some p0)) (show xm_Imp g Γ 73 (xi_put 14 2 (.boolean) 76) from xs_put hG hΓ (ci := 14) (kf := 2) rfl (Nat.le_of_ble_eq_true rfl) rfl (by decide +kernel) q330 dJ4_setLength_73) rfl ⟨rfl, rfl⟩ e1 ?_
        exact hB_76 _ _ _ _ _ e
    · rw [if_neg c] at e
      refine xw_ald (show xm_Imp g Γ 26 (xi_ald 0 27) from xs_aload_n hΓ dJ4_setLength_26) rfl ?_
      obtain ⟨_, e0, e⟩ := e
      obtain ⟨v9, e1, e⟩ := e
      refine xw_hv0 (o := (some p0)) (show xm_Imp g Γ 27 (xi_vir g 14 M_J4_isLatin1 1 0 30) from xs_invU hG hΓ (owner := "java/lang/AbstractStringBuilder") k_J4_isLatin1 rfl (ci := 14) rfl q461 q463 q462 q464 rfl ⟨by decide, by decide⟩ (by decide +kernel) dJ4_setLength_27) rfl rfl e0 (fun Q X hQ => K_J4_isLatin1 hG p0 _ e1 hQ) ?_
      refine xw_if (show xm_Imp g Γ 30 (xi_if (fun x => x = 0) 48 33) from xs_if_eq hΓ dJ4_setLength_30 (by decide)) (fun c => ?_) (fun c => ?_)
      · rw [if_pos c] at e
        refine xw_ald (show xm_Imp g Γ 48 (xi_ald 0 49) from xs_aload_n hΓ dJ4_setLength_48) rfl ?_
        obtain ⟨v10, e1, e⟩ := e
        refine xw_gr1 (o := (some p0)) (show xm_Imp g Γ 49 (xi_get 14 0 52) from xs_get hG hΓ (ci := 14) (kf := 0) rfl (Nat.le_of_ble_eq_true rfl) q328 dJ4_setLength_49) rfl e1 ?_
        refine xw_ald (show xm_Imp g Γ 52 (xi_ald 0 53) from xs_aload_n hΓ dJ4_setLength_52) rfl ?_
        obtain ⟨v11, e1, e⟩ := e
        refine xw_gi1 (o := (some p0)) (show xm_Imp g Γ 53 (xi_get 14 3 56) from xs_get hG hΓ (ci := 14) (kf := 3) rfl (Nat.le_of_ble_eq_true rfl) q332 dJ4_setLength_53) rfl e1 ?_
        refine xw_ild (show xm_Imp g Γ 56 (xi_ild 1 57) from xs_iload_n hΓ dJ4_setLength_56) rfl ?_
        exact e.elim
      · rw [if_neg c] at e
        refine xw_ald (show xm_Imp g Γ 33 (xi_ald 0 34) from xs_aload_n hΓ dJ4_setLength_33) rfl ?_
        obtain ⟨v12, e1, e⟩ := e
        refine xw_gr1 (o := (some p0)) (show xm_Imp g Γ 34 (xi_get 14 0 37) from xs_get hG hΓ (ci := 14) (kf := 0) rfl (Nat.le_of_ble_eq_true rfl) q328 dJ4_setLength_34) rfl e1 ?_
        refine xw_ald (show xm_Imp g Γ 37 (xi_ald 0 38) from xs_aload_n hΓ dJ4_setLength_37) rfl ?_
        obtain ⟨v13, e1, e⟩ := e
        refine xw_gi1 (o := (some p0)) (show xm_Imp g Γ 38 (xi_get 14 3 41) from xs_get hG hΓ (ci := 14) (kf := 3) rfl (Nat.le_of_ble_eq_true rfl) q332 dJ4_setLength_38) rfl e1 ?_
        refine xw_ild (show xm_Imp g Γ 41 (xi_ild 1 42) from xs_iload_n hΓ dJ4_setLength_41) rfl ?_
        obtain ⟨v14, e1, e⟩ := e
        refine xw_su3 (show xm_Imp g Γ 42 (xi_inv g M_J11_fillNull 2 3 45) from xs_invS hG hΓ k_J11_fillNull rfl q1725 q1726 dJ4_setLength_42) rfl (fun Q X hQ => K_J11_fillNull hG v12 v13 p1 _ e1 hQ) ?_
        refine xw_goto (show xm_Imp g Γ 45 (xi_goto 76) from xs_goto hΓ dJ4_setLength_45 (by decide)) ?_
        exact hB_76 _ _ _ _ _ e
  · rw [if_neg c] at e
    exact e.elim
noncomputable def F_J5_setLength (g : xm_G) (p0 : Nat) (p1 : Int32) (h : xm_H) (bc : Nat) (bs : Nat) (Q : xm_H → Prop) : Prop :=
 xt_b (xh_is 14 h p0) (fun _ =>
 xt_c bc bs (fun m1 m2 => F_J4_setLength g p0 p1 h m1 m2 (fun h3 =>
 Q h3)))
set_option maxHeartbeats 4000000 in
theorem K_J5_setLength {g : xm_G} (hG : xm_Gw g) (p0 : Nat) (p1 : Int32) (h : xm_H) (bc : Nat) (bs : Nat) {Q : xm_H → Prop} (e : F_J5_setLength g p0 p1 h bc bs Q) : xm_Run g M_J5_setLength 11 [.ref p0, .int p1] h bc bs (fun v h' => v = none ∧ Q h') xm_no := by
  refine xm_Run.of pn_java_lang_StringBuilder (Nat.le_of_ble_eq_true rfl) (fun Γ hΓ => ?_)
  show xm_W g Γ 0 [some (.ref p0), some (.int p1)] [] h bc bs
  unfold F_J5_setLength at e
  refine xw_ald (show xm_Imp g Γ 0 (xi_ald 0 1) from xs_aload_n hΓ dJ5_setLength_0) rfl ?_
  refine xw_ild (show xm_Imp g Γ 1 (xi_ild 1 2) from xs_iload_n hΓ dJ5_setLength_1) rfl ?_
  obtain ⟨_, e0, e⟩ := e
  obtain ⟨m1, m2, ⟨em1, em2⟩, e⟩ := e
  refine xw_tvu1 (o := (some p0)) (show xm_Imp g Γ 2 (xi_vir g 14 M_J4_setLength 10 1 5) from xs_invP hG hΓ k_J4_setLength rfl (ci := 14) rfl q1700 q3534 q341 q1701 (by decide) dJ5_setLength_2) rfl rfl e0 em1 em2 (K_J4_setLength hG p0 p1 _ _ _ e) (fun h3 e => ?_)
  exact xw_vret (show xm_Imp g Γ 5 (xi_vret _) from xs_return hΓ rfl dJ5_setLength_5) ⟨rfl, e⟩
noncomputable def D_X4_write_21 (g : xm_G) (l0 : Nat) (l1 : Option Nat) (l2 : Int32) (Q : xm_H → Prop) (k21 : Int32 × xm_H × Nat × Nat → Prop) (s : Int32 × xm_H × Nat × Nat) : Prop :=
 (if l2 ≤ s.1 then
 xt_b l1 (fun a7 =>
 xt_b (xh_is 14 s.2.1 a7) (fun _ =>
 xt_c s.2.2.1 s.2.2.2 (fun m8 m9 => F_J5_append g a7 10 s.2.1 m8 m9 (fun v11 h10 =>
 Q h10)))) else
 xt_b (xh_fi [(3, 0)] s.2.1 l0) (fun v12 =>
 xt_b (xh_fi [(3, 1)] s.2.1 l0) (fun v13 =>
 xt_b (xh_is 15 s.2.1 (xm_sa g "StringTableau$Row" 82)) (fun _ =>
 xt_b (F_J6_charAt g (xm_sa g "StringTableau$Row" 82) (F_X1_letterOf v12 v13 s.1) s.2.1) (fun v14 =>
 xt_b l1 (fun a15 =>
 xt_b (xh_is 14 s.2.1 a15) (fun _ =>
 xt_c s.2.2.1 s.2.2.2 (fun m16 m17 => F_J5_append g a15 v14 s.2.1 m16 m17 (fun v19 h18 =>
 k21 ((s.1 + 1), h18, (s.2.2.1 - m16), (s.2.2.2 - m17)))))))))))
noncomputable def L_X4_write_21 (g : xm_G) (l0 : Nat) (l1 : Option Nat) (l2 : Int32) (Q : xm_H → Prop) (s : Int32 × xm_H × Nat × Nat) : Prop := xt_loop (D_X4_write_21 g l0 l1 l2 Q) s
noncomputable def B_X4_write_15 (g : xm_G) (l0 : Nat) (l1 : Option Nat) (l2 : Int32) (s0 : Option Nat) (s1 : Int32) (h : xm_H) (bc : Nat) (bs : Nat) (Q : xm_H → Prop) : Prop :=
 xt_b s0 (fun a2 =>
 xt_b (xh_is 14 h a2) (fun _ =>
 xt_c bc bs (fun m3 m4 => F_J5_append g a2 s1 h m3 m4 (fun v6 h5 =>
 L_X4_write_21 g l0 l1 l2 Q (0, h5, (bc - m3), (bs - m4))))))
noncomputable def F_X4_write (g : xm_G) (p0 : Nat) (p1 : Option Nat) (p2 : Int32) (h : xm_H) (bc : Nat) (bs : Nat) (Q : xm_H → Prop) : Prop :=
 xt_b (xh_fi [(3, 2)] h p0) (fun v1 =>
 B_X4_write_15 g p0 p1 p2 p1 (if v1 = 0 then 43 else 45) h bc bs Q)
set_option maxHeartbeats 4000000 in
theorem K_X4_write {g : xm_G} (hG : xm_Gw g) (p0 : Nat) (p1 : Option Nat) (p2 : Int32) (h : xm_H) (bc : Nat) (bs : Nat) {Q : xm_H → Prop} (e : F_X4_write g p0 p1 p2 h bc bs Q) : xm_Run g M_X4_write 12 [.ref p0, va_rf p1, .int p2] h bc bs (fun v h' => v = none ∧ Q h') xm_no := by
  refine xm_Run.of2 (ls := [some (.ref p0), some (va_rf p1), some (.int p2), none]) pn_StringTableau_Row (by cases p1 <;> exact Nat.le_of_ble_eq_true rfl) (by cases p1 <;> rfl) (fun Γ hΓ => ?_)
  show xm_W g Γ 0 [some (.ref p0), some (va_rf p1), some (.int p2), none] [] h bc bs
  have hL_21 : ∀ (l0 : Nat) (l1 : Option Nat) (l2 : Int32) (s : Int32 × xm_H × Nat × Nat), L_X4_write_21 g l0 l1 l2 Q s → xm_W g Γ 21 [some (.ref l0), some (va_rf l1), some (.int l2), some (.int s.1)] [] s.2.1 s.2.2.1 s.2.2.2 := by
    intro l0 l1 l2
    refine xt_rule (WS := fun s : Int32 × xm_H × Nat × Nat => xm_W g Γ 21 [some (.ref l0), some (va_rf l1), some (.int l2), some (.int s.1)] [] s.2.1 s.2.2.1 s.2.2.2) ?_
    intro k21 hk21 s e
    unfold D_X4_write_21 at e
    refine xw_ild (show xm_Imp g Γ 21 (xi_ild 3 22) from xs_iload_n hΓ dX4_write_21) rfl ?_
    refine xw_ild (show xm_Imp g Γ 22 (xi_ild 2 23) from xs_iload_n hΓ dX4_write_22) rfl ?_
    refine xw_ic (show xm_Imp g Γ 23 (xi_ic (fun x y => y ≤ x) 54 26) from xs_icmp_ge hΓ dX4_write_23 (by decide)) (fun c => ?_) (fun c => ?_)
    · rw [if_pos c] at e
      refine xw_aldo (x := l1) (show xm_Imp g Γ 54 (xi_ald 1 55) from xs_aload_n hΓ dX4_write_54) rfl ?_
      refine xw_psh (v := (.int (10))) (show xm_Imp g Γ 55 (xi_psh (.int (10)) 57) from xs_bipush hΓ dX4_write_55 (by decide)) ?_
      obtain ⟨a7, ha7, e⟩ := e
      obtain ⟨_, e0, e⟩ := e
      obtain ⟨m8, m9, ⟨em1, em2⟩, e⟩ := e
      refine xw_tvr1 (o := l1) (show xm_Imp g Γ 57 (xi_vir g 14 M_J5_append 11 1 60) from xs_invV hG hΓ k_J5_append rfl (ci := 14) rfl q1768 q420 q421 dX4_write_57) (by simp [xm_stk, xv_cat, xc_int, xc_long, xc_float, xc_double, xc_ref]) ha7 e0 em1 em2 (K_J5_append hG a7 10 _ _ _ e) (fun v11 h10 e => ?_)
      refine xw_pop (show xm_Imp g Γ 60 (xi_pop 61) from xs_pop hΓ dX4_write_60) (xm_c1_rf v11) ?_
      exact xw_vret (show xm_Imp g Γ 61 (xi_vret _) from xs_return hΓ rfl dX4_write_61) ⟨rfl, e⟩
    · rw [if_neg c] at e
      refine xw_aldo (x := l1) (show xm_Imp g Γ 26 (xi_ald 1 27) from xs_aload_n hΓ dX4_write_26) rfl ?_
      refine xw_psh (v := (.ref (xm_sa g "StringTableau$Row" 82))) (show xm_Imp g Γ 27 (xi_psh (.ref (xm_sa g "StringTableau$Row" 82)) 29) from xs_ldS hG hΓ q1769 dX4_write_27) ?_
      refine xw_ald (show xm_Imp g Γ 29 (xi_ald 0 30) from xs_aload_n hΓ dX4_write_29) rfl ?_
      obtain ⟨v12, e1, e⟩ := e
      refine xw_gi1 (o := (some l0)) (show xm_Imp g Γ 30 (xi_get 3 0 33) from xs_get hG hΓ (ci := 3) (kf := 0) rfl (Nat.le_of_ble_eq_true rfl) q246 dX4_write_30) rfl e1 ?_
      refine xw_ald (show xm_Imp g Γ 33 (xi_ald 0 34) from xs_aload_n hΓ dX4_write_33) rfl ?_
      obtain ⟨v13, e1, e⟩ := e
      refine xw_gi1 (o := (some l0)) (show xm_Imp g Γ 34 (xi_get 3 1 37) from xs_get hG hΓ (ci := 3) (kf := 1) rfl (Nat.le_of_ble_eq_true rfl) q251 dX4_write_34) rfl e1 ?_
      refine xw_ild (show xm_Imp g Γ 37 (xi_ild 3 38) from xs_iload_n hΓ dX4_write_37) rfl ?_
      refine xw_sv3 (show xm_Imp g Γ 38 (xi_inv g M_X1_letterOf 2 3 41) from xs_invSN hG hΓ k_X1_letterOf rfl q1770 q1238 dX4_write_38) (by simp [xm_stk, xv_cat, xc_int, xc_long, xc_float, xc_double, xc_ref]) (fun Q X hQ => K_X1_letterOf hG v12 v13 s.1 rfl hQ) ?_
      obtain ⟨_, e0, e⟩ := e
      obtain ⟨v14, e1, e⟩ := e
      refine xw_hv1 (o := (some (xm_sa g "StringTableau$Row" 82))) (show xm_Imp g Γ 41 (xi_vir g 15 M_J6_charAt 11 1 44) from xs_invV hG hΓ k_J6_charAt rfl (ci := 15) rfl q1771 q928 q929 dX4_write_41) (by simp [xm_stk, xv_cat, xc_int, xc_long, xc_float, xc_double, xc_ref]) rfl e0 (fun Q X hQ => K_J6_charAt hG (xm_sa g "StringTableau$Row" 82) (F_X1_letterOf v12 v13 s.1) _ e1 hQ) ?_
      obtain ⟨a15, ha15, e⟩ := e
      obtain ⟨_, e0, e⟩ := e
      obtain ⟨m16, m17, ⟨em1, em2⟩, e⟩ := e
      refine xw_tvr1 (o := l1) (show xm_Imp g Γ 44 (xi_vir g 14 M_J5_append 11 1 47) from xs_invV hG hΓ k_J5_append rfl (ci := 14) rfl q1768 q420 q421 dX4_write_44) (by simp [xm_stk, xv_cat, xc_int, xc_long, xc_float, xc_double, xc_ref]) ha15 e0 em1 em2 (K_J5_append hG a15 v14 _ _ _ e) (fun v19 h18 e => ?_)
      refine xw_pop (show xm_Imp g Γ 47 (xi_pop 48) from xs_pop hΓ dX4_write_47) (xm_c1_rf v19) ?_
      refine xw_inc (v := (1)) (ls' := [some (.ref l0), some (va_rf l1), some (.int l2), some (.int (s.1 + 1))]) (show xm_Imp g Γ 48 (xi_inc 3 (1) 51) from xs_iinc hΓ dX4_write_48 (by decide) (Nat.le_of_ble_eq_true rfl)) rfl rfl ?_
      refine xw_goto (show xm_Imp g Γ 51 (xi_goto 21) from xs_goto hΓ dX4_write_51 (by decide)) ?_
      have hq := hk21 _ e; exact hq
  have hB_15 : ∀ (l0 : Nat) (l1 : Option Nat) (l2 : Int32) (s0 : Option Nat) (s1 : Int32) (h : xm_H) (bc : Nat) (bs : Nat), B_X4_write_15 g l0 l1 l2 s0 s1 h bc bs Q → xm_W g Γ 15 [some (.ref l0), some (va_rf l1), some (.int l2), none] [.int s1, va_rf s0] h bc bs := by
    intro l0 l1 l2 s0 s1 h bc bs e
    unfold B_X4_write_15 at e
    obtain ⟨a2, ha2, e⟩ := e
    obtain ⟨_, e0, e⟩ := e
    obtain ⟨m3, m4, ⟨em1, em2⟩, e⟩ := e
    refine xw_tvr1 (o := s0) (show xm_Imp g Γ 15 (xi_vir g 14 M_J5_append 11 1 18) from xs_invV hG hΓ k_J5_append rfl (ci := 14) rfl q1768 q420 q421 dX4_write_15) (by simp [xm_stk, xv_cat, xc_int, xc_long, xc_float, xc_double, xc_ref]) ha2 e0 em1 em2 (K_J5_append hG a2 s1 _ _ _ e) (fun v6 h5 e => ?_)
    refine xw_pop (show xm_Imp g Γ 18 (xi_pop 19) from xs_pop hΓ dX4_write_18) (xm_c1_rf v6) ?_
    refine xw_psh (v := (.int (0))) (show xm_Imp g Γ 19 (xi_psh (.int (0)) 20) from xs_iconst hΓ dX4_write_19 (by decide)) ?_
    refine xw_ist (ls' := [some (.ref l0), some (va_rf l1), some (.int l2), some (.int 0)]) (show xm_Imp g Γ 20 (xi_ist 3 21) from xs_istore_n hΓ dX4_write_20 (Nat.le_of_ble_eq_true rfl)) rfl ?_
    exact hL_21 _ _ _ _ e
  unfold F_X4_write at e
  refine xw_aldo (x := p1) (show xm_Imp g Γ 0 (xi_ald 1 1) from xs_aload_n hΓ dX4_write_0) rfl ?_
  refine xw_ald (show xm_Imp g Γ 1 (xi_ald 0 2) from xs_aload_n hΓ dX4_write_1) rfl ?_
  obtain ⟨v1, e1, e⟩ := e
  refine xw_gi1 (o := (some p0)) (show xm_Imp g Γ 2 (xi_get 3 2 5) from xs_get hG hΓ (ci := 3) (kf := 2) rfl (Nat.le_of_ble_eq_true rfl) q256 dX4_write_2) rfl e1 ?_
  refine xw_if (show xm_Imp g Γ 5 (xi_if (fun x => x = 0) 13 8) from xs_if_eq hΓ dX4_write_5 (by decide)) (fun c => ?_) (fun c => ?_)
  · rw [if_pos c] at e
    refine xw_psh (v := (.int (43))) (show xm_Imp g Γ 13 (xi_psh (.int (43)) 15) from xs_bipush hΓ dX4_write_13 (by decide)) ?_
    exact hB_15 _ _ _ _ _ _ _ _ e
  · rw [if_neg c] at e
    refine xw_psh (v := (.int (45))) (show xm_Imp g Γ 8 (xi_psh (.int (45)) 10) from xs_bipush hΓ dX4_write_8 (by decide)) ?_
    refine xw_goto (show xm_Imp g Γ 10 (xi_goto 15) from xs_goto hΓ dX4_write_10 (by decide)) ?_
    exact hB_15 _ _ _ _ _ _ _ _ e
noncomputable def D_X1_print_45 (g : xm_G) (l0 : Nat) (l3 : Option Nat) (l4 : Int32) (Q : Int32 → xm_H → Prop) (k45 : Int32 × xm_H × Nat × Nat → Prop) (s : Int32 × xm_H × Nat × Nat) : Prop :=
 (if l4 ≤ s.1 then
 xt_b (xh_fr [(0, 8)] s.2.1 l0) (fun v14 =>
 xt_b v14 (fun a15 =>
 xt_b (xh_is 14 s.2.1 a15) (fun _ =>
 xt_b (F_J5_length g a15 s.2.1) (fun v16 =>
 Q v16 s.2.1)))) else
 xt_b l3 (fun a17 =>
 xt_b (xh_ar "StringTableau$Row" s.2.1 a17 s.1) (fun v18 =>
 xt_b (xh_fr [(0, 8)] s.2.1 l0) (fun v19 =>
 xt_b (xh_is 0 s.2.1 l0) (fun _ =>
 xt_b (F_X1_qubits g l0 s.2.1) (fun v20 =>
 xt_b v18 (fun a21 =>
 xt_b (xh_is 3 s.2.1 a21) (fun _ =>
 xt_c s.2.2.1 s.2.2.2 (fun m22 m23 => F_X4_write g a21 v19 v20 s.2.1 m22 m23 (fun h24 =>
 k45 ((s.1 + 1), h24, (s.2.2.1 - m22), (s.2.2.2 - m23))))))))))))
noncomputable def L_X1_print_45 (g : xm_G) (l0 : Nat) (l3 : Option Nat) (l4 : Int32) (Q : Int32 → xm_H → Prop) (s : Int32 × xm_H × Nat × Nat) : Prop := xt_loop (D_X1_print_45 g l0 l3 l4 Q) s
noncomputable def B_X1_print_32 (g : xm_G) (l0 : Nat) (s0 : Option Nat) (h : xm_H) (bc : Nat) (bs : Nat) (Q : Int32 → xm_H → Prop) : Prop :=
 xt_b s0 (fun a10 =>
 xt_b (xh_fr [(2, 0)] h a10) (fun v11 =>
 xt_b v11 (fun a12 =>
 xt_b (xh_len h a12) (fun v13 =>
 L_X1_print_45 g l0 v11 v13 Q (0, h, bc, bs)))))
noncomputable def F_X1_print (g : xm_G) (p0 : Nat) (p1 : Int32) (h : xm_H) (bc : Nat) (bs : Nat) (Q : Int32 → xm_H → Prop) : Prop :=
 xt_b (xh_fr [(0, 8)] h p0) (fun v1 =>
 xt_b v1 (fun a2 =>
 xt_b (xh_is 14 h a2) (fun _ =>
 xt_c bc bs (fun m3 m4 => F_J5_setLength g a2 0 h m3 m4 (fun h5 =>
 (if p1 = 0 then
 xt_b (xh_fr [(0, 0)] h5 p0) (fun v7 =>
 xt_b v7 (fun a8 =>
 xt_b (xh_fr [(1, 0)] h5 a8) (fun v9 =>
 B_X1_print_32 g p0 v9 h5 (bc - m3) (bs - m4) Q))) else
 xt_b (xh_fr [(0, 0)] h5 p0) (fun v26 =>
 xt_b v26 (fun a27 =>
 xt_b (xh_fr [(1, 0)] h5 a27) (fun v28 =>
 xt_b v28 (fun a29 =>
 xt_b (xh_is 2 h5 a29) (fun _ =>
 xt_c (bc - m3) (bs - m4) (fun m30 m31 => F_X3_canonical g a29 h5 m30 m31 (fun v33 h32 =>
 B_X1_print_32 g p0 v33 h32 ((bc - m3) - m30) ((bs - m4) - m31) Q)))))))))))))
set_option maxHeartbeats 4000000 in
theorem K_X1_print {g : xm_G} (hG : xm_Gw g) (p0 : Nat) (p1 : Int32) (h : xm_H) (bc : Nat) (bs : Nat) {Q : Int32 → xm_H → Prop} (e : F_X1_print g p0 p1 h bc bs Q) : xm_Run g M_X1_print 13 [.ref p0, .int p1] h bc bs (fun v h' => ∃ r, v = some (.int r) ∧ Q r h') xm_no := by
  refine xm_Run.of pn_StringTableau (Nat.le_of_ble_eq_true rfl) (fun Γ hΓ => ?_)
  show xm_W g Γ 0 [some (.ref p0), some (.int p1), none, none, none, none, none] [] h bc bs
  have hL_45 : ∀ (l0 : Nat) (l3 : Option Nat) (l4 : Int32) (s : Int32 × xm_H × Nat × Nat), L_X1_print_45 g l0 l3 l4 Q s → xm_W g Γ 45 [some (.ref l0), none, none, some (va_rf l3), some (.int l4), some (.int s.1), none] [] s.2.1 s.2.2.1 s.2.2.2 := by
    intro l0 l3 l4
    refine xt_rule (WS := fun s : Int32 × xm_H × Nat × Nat => xm_W g Γ 45 [some (.ref l0), none, none, some (va_rf l3), some (.int l4), some (.int s.1), none] [] s.2.1 s.2.2.1 s.2.2.2) ?_
    intro k45 hk45 s e
    unfold D_X1_print_45 at e
    refine xw_ild (show xm_Imp g Γ 45 (xi_ild 5 47) from xs_iload hΓ dX1_print_45) rfl ?_
    refine xw_ild (show xm_Imp g Γ 47 (xi_ild 4 49) from xs_iload hΓ dX1_print_47) rfl ?_
    refine xw_ic (show xm_Imp g Γ 49 (xi_ic (fun x y => y ≤ x) 77 52) from xs_icmp_ge hΓ dX1_print_49 (by decide)) (fun c => ?_) (fun c => ?_)
    · rw [if_pos c] at e
      refine xw_ald (show xm_Imp g Γ 77 (xi_ald 0 78) from xs_aload_n hΓ dX1_print_77) rfl ?_
      obtain ⟨v14, e1, e⟩ := e
      refine xw_gr1 (o := (some l0)) (show xm_Imp g Γ 78 (xi_get 0 8 81) from xs_get hG hΓ (ci := 0) (kf := 8) rfl (Nat.le_of_ble_eq_true rfl) q355 dX1_print_78) rfl e1 ?_
      obtain ⟨a15, ha15, e⟩ := e
      obtain ⟨_, e0, e⟩ := e
      obtain ⟨v16, e1, e⟩ := e
      refine xw_hv0 (o := v14) (show xm_Imp g Γ 81 (xi_vir g 14 M_J5_length 2 0 84) from xs_invV hG hΓ k_J5_length rfl (ci := 14) rfl q1772 q536 q3535 dX1_print_81) (by simp [xm_stk, xv_cat, xc_int, xc_long, xc_float, xc_double, xc_ref]) ha15 e0 (fun Q X hQ => K_J5_length hG a15 _ e1 hQ) ?_
      exact xw_iret (show xm_Imp g Γ 84 (xi_iret .int _) from xs_ireturn hΓ rfl dX1_print_84) (xn_int _) ⟨_, rfl, e⟩
    · rw [if_neg c] at e
      refine xw_aldo (x := l3) (show xm_Imp g Γ 52 (xi_ald 3 53) from xs_aload_n hΓ dX1_print_52) rfl ?_
      refine xw_ild (show xm_Imp g Γ 53 (xi_ild 5 55) from xs_iload hΓ dX1_print_53) rfl ?_
      obtain ⟨a17, ha17, e⟩ := e
      obtain ⟨v18, e1, e⟩ := e
      refine xw_haal (o := l3) (show xm_Imp g Γ 55 (xi_aal "StringTableau$Row" 56) from xs_aal hG hΓ dX1_print_55) ha17 e1 ?_
      refine xw_asto (x := v18) (ls' := [some (.ref l0), none, none, some (va_rf l3), some (.int l4), some (.int s.1), some (va_rf v18)]) (show xm_Imp g Γ 56 (xi_ast 6 58) from xs_astore hΓ dX1_print_56 (Nat.le_of_ble_eq_true rfl)) rfl ?_
      refine xw_aldo (x := v18) (show xm_Imp g Γ 58 (xi_ald 6 60) from xs_aload hΓ dX1_print_58) rfl ?_
      refine xw_ald (show xm_Imp g Γ 60 (xi_ald 0 61) from xs_aload_n hΓ dX1_print_60) rfl ?_
      obtain ⟨v19, e1, e⟩ := e
      refine xw_gr1 (o := (some l0)) (show xm_Imp g Γ 61 (xi_get 0 8 64) from xs_get hG hΓ (ci := 0) (kf := 8) rfl (Nat.le_of_ble_eq_true rfl) q355 dX1_print_61) rfl e1 ?_
      refine xw_ald (show xm_Imp g Γ 64 (xi_ald 0 65) from xs_aload_n hΓ dX1_print_64) rfl ?_
      obtain ⟨_, e0, e⟩ := e
      obtain ⟨v20, e1, e⟩ := e
      refine xw_hv0 (o := (some l0)) (show xm_Imp g Γ 65 (xi_vir g 0 M_X1_qubits 1 0 68) from xs_invV hG hΓ k_X1_qubits rfl (ci := 0) rfl q1139 q1141 qs20 dX1_print_65) (by simp [xm_stk, xv_cat, xc_int, xc_long, xc_float, xc_double, xc_ref]) rfl e0 (fun Q X hQ => K_X1_qubits hG l0 _ e1 hQ) ?_
      obtain ⟨a21, ha21, e⟩ := e
      obtain ⟨_, e0, e⟩ := e
      obtain ⟨m22, m23, ⟨em1, em2⟩, e⟩ := e
      refine xw_tvu2 (o := v18) (show xm_Imp g Γ 68 (xi_vir g 3 M_X4_write 12 2 71) from xs_invV hG hΓ k_X4_write rfl (ci := 3) rfl q1764 q1765 q1766 dX1_print_68) (by simp [xm_stk, xv_cat, xc_int, xc_long, xc_float, xc_double, xc_ref]) ha21 e0 em1 em2 (K_X4_write hG a21 v19 v20 _ _ _ e) (fun h24 e => ?_)
      refine xw_inc (v := (1)) (ls' := [some (.ref l0), none, none, some (va_rf l3), some (.int l4), some (.int (s.1 + 1)), some (va_rf v18)]) (show xm_Imp g Γ 71 (xi_inc 5 (1) 74) from xs_iinc hΓ dX1_print_71 (by decide) (Nat.le_of_ble_eq_true rfl)) rfl rfl ?_
      refine xw_goto (show xm_Imp g Γ 74 (xi_goto 45) from xs_goto hΓ dX1_print_74 (by decide)) ?_
      have hq := hk45 _ e; exact xm_lx (hq) (And.intro rfl (And.intro rfl (And.intro rfl (And.intro rfl (trivial)))))
  have hB_32 : ∀ (l0 : Nat) (s0 : Option Nat) (h : xm_H) (bc : Nat) (bs : Nat), B_X1_print_32 g l0 s0 h bc bs Q → xm_W g Γ 32 [some (.ref l0), none, none, none, none, none, none] [va_rf s0] h bc bs := by
    intro l0 s0 h bc bs e
    unfold B_X1_print_32 at e
    refine xw_asto (x := s0) (ls' := [some (.ref l0), none, some (va_rf s0), none, none, none, none]) (show xm_Imp g Γ 32 (xi_ast 2 33) from xs_astore_n hΓ dX1_print_32 (Nat.le_of_ble_eq_true rfl)) rfl ?_
    refine xw_aldo (x := s0) (show xm_Imp g Γ 33 (xi_ald 2 34) from xs_aload_n hΓ dX1_print_33) rfl ?_
    obtain ⟨a10, ha10, e⟩ := e
    obtain ⟨v11, e1, e⟩ := e
    refine xw_gr1 (o := s0) (show xm_Imp g Γ 34 (xi_get 2 0 37) from xs_getN hG hΓ (ci := 2) (kf := 0) rfl (Nat.le_of_ble_eq_true rfl) q271 dX1_print_34) ha10 e1 ?_
    refine xw_asto (x := v11) (ls' := [some (.ref l0), none, some (va_rf s0), some (va_rf v11), none, none, none]) (show xm_Imp g Γ 37 (xi_ast 3 38) from xs_astore_n hΓ dX1_print_37 (Nat.le_of_ble_eq_true rfl)) ((xm_s1_o (o := s0) rfl).trans rfl) ?_
    refine xw_aldo (x := v11) (show xm_Imp g Γ 38 (xi_ald 3 39) from xs_aload_n hΓ dX1_print_38) rfl ?_
    obtain ⟨a12, ha12, e⟩ := e
    obtain ⟨v13, e1, e⟩ := e
    refine xw_hlen (o := v11) (show xm_Imp g Γ 39 (xi_len 40) from xs_len hG hΓ dX1_print_39) ha12 e1 ?_
    refine xw_ist (ls' := [some (.ref l0), none, some (va_rf s0), some (va_rf v11), some (.int v13), none, none]) (show xm_Imp g Γ 40 (xi_ist 4 42) from xs_istore hΓ dX1_print_40 (Nat.le_of_ble_eq_true rfl)) ((xm_s1_o (o := v11) rfl).trans rfl) ?_
    refine xw_psh (v := (.int (0))) (show xm_Imp g Γ 42 (xi_psh (.int (0)) 43) from xs_iconst hΓ dX1_print_42 (by decide)) ?_
    refine xw_ist (ls' := [some (.ref l0), none, some (va_rf s0), some (va_rf v11), some (.int v13), some (.int 0), none]) (show xm_Imp g Γ 43 (xi_ist 5 45) from xs_istore hΓ dX1_print_43 (Nat.le_of_ble_eq_true rfl)) rfl ?_
    exact xm_lx (hL_45 _ _ _ _ e) (And.intro rfl (And.intro rfl (And.intro rfl (And.intro rfl (trivial)))))
  unfold F_X1_print at e
  refine xw_ald (show xm_Imp g Γ 0 (xi_ald 0 1) from xs_aload_n hΓ dX1_print_0) rfl ?_
  obtain ⟨v1, e1, e⟩ := e
  refine xw_gr1 (o := (some p0)) (show xm_Imp g Γ 1 (xi_get 0 8 4) from xs_get hG hΓ (ci := 0) (kf := 8) rfl (Nat.le_of_ble_eq_true rfl) q355 dX1_print_1) rfl e1 ?_
  refine xw_psh (v := (.int (0))) (show xm_Imp g Γ 4 (xi_psh (.int (0)) 5) from xs_iconst hΓ dX1_print_4 (by decide)) ?_
  obtain ⟨a2, ha2, e⟩ := e
  obtain ⟨_, e0, e⟩ := e
  obtain ⟨m3, m4, ⟨em1, em2⟩, e⟩ := e
  refine xw_tvu1 (o := v1) (show xm_Imp g Γ 5 (xi_vir g 14 M_J5_setLength 11 1 8) from xs_invV hG hΓ k_J5_setLength rfl (ci := 14) rfl q1696 q1697 q1698 dX1_print_5) (by simp [xm_stk, xv_cat, xc_int, xc_long, xc_float, xc_double, xc_ref]) ha2 e0 em1 em2 (K_J5_setLength hG a2 0 _ _ _ e) (fun h5 e => ?_)
  refine xw_ild (show xm_Imp g Γ 8 (xi_ild 1 9) from xs_iload_n hΓ dX1_print_8) rfl ?_
  refine xw_if (show xm_Imp g Γ 9 (xi_if (fun x => x = 0) 25 12) from xs_if_eq hΓ dX1_print_9 (by decide)) (fun c => ?_) (fun c => ?_)
  · rw [if_pos c] at e
    refine xw_ald (show xm_Imp g Γ 25 (xi_ald 0 26) from xs_aload_n hΓ dX1_print_25) rfl ?_
    obtain ⟨v7, e1, e⟩ := e
    refine xw_gr1 (o := (some p0)) (show xm_Imp g Γ 26 (xi_get 0 0 29) from xs_get hG hΓ (ci := 0) (kf := 0) rfl (Nat.le_of_ble_eq_true rfl) q343 dX1_print_26) rfl e1 ?_
    obtain ⟨a8, ha8, e⟩ := e
    obtain ⟨v9, e1, e⟩ := e
    refine xw_gr1 (o := v7) (show xm_Imp g Γ 29 (xi_get 1 0 32) from xs_getN hG hΓ (ci := 1) (kf := 0) rfl (Nat.le_of_ble_eq_true rfl) q276 dX1_print_29) ha8 e1 ?_
    exact xm_lx (hB_32 _ _ _ _ _ e) (And.intro rfl (trivial))
  · rw [if_neg c] at e
    refine xw_ald (show xm_Imp g Γ 12 (xi_ald 0 13) from xs_aload_n hΓ dX1_print_12) rfl ?_
    obtain ⟨v26, e1, e⟩ := e
    refine xw_gr1 (o := (some p0)) (show xm_Imp g Γ 13 (xi_get 0 0 16) from xs_get hG hΓ (ci := 0) (kf := 0) rfl (Nat.le_of_ble_eq_true rfl) q343 dX1_print_13) rfl e1 ?_
    obtain ⟨a27, ha27, e⟩ := e
    obtain ⟨v28, e1, e⟩ := e
    refine xw_gr1 (o := v26) (show xm_Imp g Γ 16 (xi_get 1 0 19) from xs_getN hG hΓ (ci := 1) (kf := 0) rfl (Nat.le_of_ble_eq_true rfl) q276 dX1_print_16) ha27 e1 ?_
    obtain ⟨a29, ha29, e⟩ := e
    obtain ⟨_, e0, e⟩ := e
    obtain ⟨m30, m31, ⟨em1, em2⟩, e⟩ := e
    refine xw_tvr0 (o := v28) (show xm_Imp g Γ 19 (xi_vir g 2 M_X3_canonical 6 0 22) from xs_invV hG hΓ k_X3_canonical rfl (ci := 2) rfl q1602 q1603 q1604 dX1_print_19) (by simp [xm_stk, xv_cat, xc_int, xc_long, xc_float, xc_double, xc_ref]) ha29 e0 em1 em2 (K_X3_canonical hG a29 _ _ _ e) (fun v33 h32 e => ?_)
    refine xw_goto (show xm_Imp g Γ 22 (xi_goto 32) from xs_goto hΓ dX1_print_22 (by decide)) ?_
    exact xm_lx (hB_32 _ _ _ _ _ e) (And.intro rfl (trivial))
