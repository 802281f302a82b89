/-! METHODS ON KNOWN CELLS as functions (printed by gen/mkhfun.py) -/
set_option maxRecDepth 100000
noncomputable def D_X1_printProgram_10 (g : xm_G) (l0 : Nat) (Q : Int32 → xm_H → Prop) (k10 : Int32 × xm_H × Nat × Nat → Prop) (s : Int32 × xm_H × Nat × Nat) : Prop :=
 xt_b (xh_fr [(0, 1)] s.2.1 l0) (fun v7 =>
 xt_b v7 (fun a8 =>
 xt_b (xh_is 12 s.2.1 a8) (fun _ =>
 xt_b (F_J2_size g a8 s.2.1) (fun v9 =>
 (if v9 ≤ s.1 then
 xt_b (xh_fr [(0, 8)] s.2.1 l0) (fun v10 =>
 xt_b v10 (fun a11 =>
 xt_b (xh_is 14 s.2.1 a11) (fun _ =>
 xt_b (F_J5_length g a11 s.2.1) (fun v12 =>
 Q v12 s.2.1)))) else
 xt_b (xh_fr [(0, 1)] s.2.1 l0) (fun v13 =>
 xt_b v13 (fun a14 =>
 xt_b (xh_is 12 s.2.1 a14) (fun _ =>
 xt_b (F_J2_get g a14 s.1 s.2.1) (fun v15 =>
 xt_b (xh_castY "StringTableau$Operation" s.2.1 v15) (fun _ =>
 xt_b (xh_is 0 s.2.1 l0) (fun _ =>
 xt_c s.2.2.1 s.2.2.2 (fun m16 m17 => F_X1_writeOperation g l0 v15 s.2.1 m16 m17 (fun h18 =>
 xt_b (xh_fr [(0, 8)] h18 l0) (fun v20 =>
 xt_b v20 (fun a21 =>
 xt_b (xh_is 14 h18 a21) (fun _ =>
 xt_c (s.2.2.1 - m16) (s.2.2.2 - m17) (fun m22 m23 => F_J5_append g a21 59 h18 m22 m23 (fun v25 h24 =>
 k10 ((s.1 + 1), h24, ((s.2.2.1 - m16) - m22), ((s.2.2.2 - m17) - m23))))))))))))))))))))
noncomputable def L_X1_printProgram_10 (g : xm_G) (l0 : Nat) (Q : Int32 → xm_H → Prop) (s : Int32 × xm_H × Nat × Nat) : Prop := xt_loop (D_X1_printProgram_10 g l0 Q) s
noncomputable def F_X1_printProgram (g : xm_G) (p0 : Nat) (h : xm_H) (bc : Nat) (bs : Nat) (Q : Int32 → xm_H → Prop) : Prop :=
 xt_b (xh_fr [(0, 8)] h p0) (fun v1 =>
 xt_b v1 (fun a2 =>
 xt_b (xh_is 14 h a2) (fun _ =>
 xt_c bc bs (fun m3 m4 => F_J5_setLength g a2 0 h m3 m4 (fun h5 =>
 L_X1_printProgram_10 g p0 Q (0, h5, (bc - m3), (bs - m4)))))))
set_option maxHeartbeats 4000000 in
theorem K_X1_printProgram {g : xm_G} (hG : xm_Gw g) (p0 : Nat) (h : xm_H) (bc : Nat) (bs : Nat) {Q : Int32 → xm_H → Prop} (e : F_X1_printProgram g p0 h bc bs Q) : xm_Run g M_X1_printProgram 14 [.ref p0] h bc bs (fun v h' => ∃ r, v = some (.int r) ∧ Q r h') xm_no := by
  refine xm_Run.of pn_StringTableau (Nat.le_of_ble_eq_true rfl) (fun Γ hΓ => ?_)
  show xm_W g Γ 0 [some (.ref p0), none] [] h bc bs
  have hL_10 : ∀ (l0 : Nat) (s : Int32 × xm_H × Nat × Nat), L_X1_printProgram_10 g l0 Q s → xm_W g Γ 10 [some (.ref l0), some (.int s.1)] [] s.2.1 s.2.2.1 s.2.2.2 := by
    intro l0
    refine xt_rule (WS := fun s : Int32 × xm_H × Nat × Nat => xm_W g Γ 10 [some (.ref l0), some (.int s.1)] [] s.2.1 s.2.2.1 s.2.2.2) ?_
    intro k10 hk10 s e
    unfold D_X1_printProgram_10 at e
    refine xw_ild (show xm_Imp g Γ 10 (xi_ild 1 11) from xs_iload_n hΓ dX1_printProgram_10) rfl ?_
    refine xw_ald (show xm_Imp g Γ 11 (xi_ald 0 12) from xs_aload_n hΓ dX1_printProgram_11) rfl ?_
    obtain ⟨v7, e1, e⟩ := e
    refine xw_gr1 (o := (some l0)) (show xm_Imp g Γ 12 (xi_get 0 1 15) from xs_get hG hΓ (ci := 0) (kf := 1) rfl (Nat.le_of_ble_eq_true rfl) q346 dX1_printProgram_12) rfl e1 ?_
    obtain ⟨a8, ha8, e⟩ := e
    obtain ⟨_, e0, e⟩ := e
    obtain ⟨v9, e1, e⟩ := e
    refine xw_hv0 (o := v7) (show xm_Imp g Γ 15 (xi_vir g 12 M_J2_size 1 0 20) from xs_invF hG hΓ k_J2_size rfl (ci := 12) rfl q1126 q906 q904 ⟨by decide, by decide⟩ (by decide +kernel) q902 q901 q907 q905 q903 dX1_printProgram_15) (by simp [xm_stk, xv_cat, xc_int, xc_long, xc_float, xc_double, xc_ref]) ha8 e0 (fun Q X hQ => K_J2_size hG a8 _ e1 hQ) ?_
    refine xw_ic (show xm_Imp g Γ 20 (xi_ic (fun x y => y ≤ x) 56 23) from xs_icmp_ge hΓ dX1_printProgram_20 (by decide)) (fun c => ?_) (fun c => ?_)
    · rw [if_pos c] at e
      refine xw_ald (show xm_Imp g Γ 56 (xi_ald 0 57) from xs_aload_n hΓ dX1_printProgram_56) rfl ?_
      obtain ⟨v10, e1, e⟩ := e
      refine xw_gr1 (o := (some l0)) (show xm_Imp g Γ 57 (xi_get 0 8 60) from xs_get hG hΓ (ci := 0) (kf := 8) rfl (Nat.le_of_ble_eq_true rfl) q355 dX1_printProgram_57) rfl e1 ?_
      obtain ⟨a11, ha11, e⟩ := e
      obtain ⟨_, e0, e⟩ := e
      obtain ⟨v12, e1, e⟩ := e
      refine xw_hv0 (o := v10) (show xm_Imp g Γ 60 (xi_vir g 14 M_J5_length 2 0 63) from xs_invV hG hΓ k_J5_length rfl (ci := 14) rfl q1772 q536 q3535 dX1_printProgram_60) (by simp [xm_stk, xv_cat, xc_int, xc_long, xc_float, xc_double, xc_ref]) ha11 e0 (fun Q X hQ => K_J5_length hG a11 _ e1 hQ) ?_
      exact xw_iret (show xm_Imp g Γ 63 (xi_iret .int _) from xs_ireturn hΓ rfl dX1_printProgram_63) (xn_int _) ⟨_, rfl, e⟩
    · rw [if_neg c] at e
      refine xw_ald (show xm_Imp g Γ 23 (xi_ald 0 24) from xs_aload_n hΓ dX1_printProgram_23) rfl ?_
      refine xw_ald (show xm_Imp g Γ 24 (xi_ald 0 25) from xs_aload_n hΓ dX1_printProgram_24) rfl ?_
      obtain ⟨v13, e1, e⟩ := e
      refine xw_gr1 (o := (some l0)) (show xm_Imp g Γ 25 (xi_get 0 1 28) from xs_get hG hΓ (ci := 0) (kf := 1) rfl (Nat.le_of_ble_eq_true rfl) q346 dX1_printProgram_25) rfl e1 ?_
      refine xw_ild (show xm_Imp g Γ 28 (xi_ild 1 29) from xs_iload_n hΓ dX1_printProgram_28) rfl ?_
      obtain ⟨a14, ha14, e⟩ := e
      obtain ⟨_, e0, e⟩ := e
      obtain ⟨v15, e1, e⟩ := e
      refine xw_hv1 (o := v13) (show xm_Imp g Γ 29 (xi_vir g 12 M_J2_get 10 1 34) from xs_invF hG hΓ k_J2_get rfl (ci := 12) rfl q1148 q1153 q1151 ⟨by decide, by decide⟩ (by decide +kernel) q1150 q1149 q1154 q1152 q903 dX1_printProgram_29) (by simp [xm_stk, xv_cat, xc_int, xc_long, xc_float, xc_double, xc_ref]) ha14 e0 (fun Q X hQ => K_J2_get hG a14 s.1 _ e1 hQ) ?_
      obtain ⟨_, e1, e⟩ := e
      refine xw_castY (o := v15) (show xm_Imp g Γ 34 (xi_castY "StringTableau$Operation" 37) from xs_castY hG hΓ q1180 dX1_printProgram_34) e1 ?_
      obtain ⟨_, e0, e⟩ := e
      obtain ⟨m16, m17, ⟨em1, em2⟩, e⟩ := e
      refine xw_tvu1 (o := (some l0)) (show xm_Imp g Γ 37 (xi_vir g 0 M_X1_writeOperation 13 1 40) from xs_invV hG hΓ k_X1_writeOperation rfl (ci := 0) rfl q1777 q1779 qs36 dX1_printProgram_37) rfl rfl e0 em1 em2 (K_X1_writeOperation hG l0 v15 _ _ _ e) (fun h18 e => ?_)
      refine xw_ald (show xm_Imp g Γ 40 (xi_ald 0 41) from xs_aload_n hΓ dX1_printProgram_40) rfl ?_
      obtain ⟨v20, e1, e⟩ := e
      refine xw_gr1 (o := (some l0)) (show xm_Imp g Γ 41 (xi_get 0 8 44) from xs_get hG hΓ (ci := 0) (kf := 8) rfl (Nat.le_of_ble_eq_true rfl) q355 dX1_printProgram_41) rfl e1 ?_
      refine xw_psh (v := (.int (59))) (show xm_Imp g Γ 44 (xi_psh (.int (59)) 46) from xs_bipush hΓ dX1_printProgram_44 (by decide)) ?_
      obtain ⟨a21, ha21, e⟩ := e
      obtain ⟨_, e0, e⟩ := e
      obtain ⟨m22, m23, ⟨em1, em2⟩, e⟩ := e
      refine xw_tvr1 (o := v20) (show xm_Imp g Γ 46 (xi_vir g 14 M_J5_append 11 1 49) from xs_invV hG hΓ k_J5_append rfl (ci := 14) rfl q1797 q420 q421 dX1_printProgram_46) (by simp [xm_stk, xv_cat, xc_int, xc_long, xc_float, xc_double, xc_ref]) ha21 e0 em1 em2 (K_J5_append hG a21 59 _ _ _ e) (fun v25 h24 e => ?_)
      refine xw_pop (show xm_Imp g Γ 49 (xi_pop 50) from xs_pop hΓ dX1_printProgram_49) (xm_c1_rf v25) ?_
      refine xw_inc (v := (1)) (ls' := [some (.ref l0), some (.int (s.1 + 1))]) (show xm_Imp g Γ 50 (xi_inc 1 (1) 53) from xs_iinc hΓ dX1_printProgram_50 (by decide) (Nat.le_of_ble_eq_true rfl)) rfl rfl ?_
      refine xw_goto (show xm_Imp g Γ 53 (xi_goto 10) from xs_goto hΓ dX1_printProgram_53 (by decide)) ?_
      have hq := hk10 _ e; exact hq
  unfold F_X1_printProgram at e
  refine xw_ald (show xm_Imp g Γ 0 (xi_ald 0 1) from xs_aload_n hΓ dX1_printProgram_0) rfl ?_
  obtain ⟨v1, e1, e⟩ := e
  refine xw_gr1 (o := (some p0)) (show xm_Imp g Γ 1 (xi_get 0 8 4) from xs_get hG hΓ (ci := 0) (kf := 8) rfl (Nat.le_of_ble_eq_true rfl) q355 dX1_printProgram_1) rfl e1 ?_
  refine xw_psh (v := (.int (0))) (show xm_Imp g Γ 4 (xi_psh (.int (0)) 5) from xs_iconst hΓ dX1_printProgram_4 (by decide)) ?_
  obtain ⟨a2, ha2, e⟩ := e
  obtain ⟨_, e0, e⟩ := e
  obtain ⟨m3, m4, ⟨em1, em2⟩, e⟩ := e
  refine xw_tvu1 (o := v1) (show xm_Imp g Γ 5 (xi_vir g 14 M_J5_setLength 11 1 8) from xs_invV hG hΓ k_J5_setLength rfl (ci := 14) rfl q1696 q1697 q1698 dX1_printProgram_5) (by simp [xm_stk, xv_cat, xc_int, xc_long, xc_float, xc_double, xc_ref]) ha2 e0 em1 em2 (K_J5_setLength hG a2 0 _ _ _ e) (fun h5 e => ?_)
  refine xw_psh (v := (.int (0))) (show xm_Imp g Γ 8 (xi_psh (.int (0)) 9) from xs_iconst hΓ dX1_printProgram_8 (by decide)) ?_
  refine xw_ist (ls' := [some (.ref p0), some (.int 0)]) (show xm_Imp g Γ 9 (xi_ist 1 10) from xs_istore_n hΓ dX1_printProgram_9 (Nat.le_of_ble_eq_true rfl)) rfl ?_
  exact hL_10 _ _ e
noncomputable def F_J4_charAt (g : xm_G) (p0 : Nat) (p1 : Int32) (h : xm_H) : Option (Int32) :=
 xo_b (xh_fi [(14, 1)] h p0) (fun v1 =>
 xo_b (xh_fr [(14, 0)] h p0) (fun v2 =>
 xo_b (xh_fi [(14, 3)] h p0) (fun v3 =>
 xo_b v2 (fun a4 =>
 xo_b (xh_len h a4) (fun v5 =>
 xo_b (F_J6_checkIndex g p1 (if (v5 >>> (v1 &&& 31)) < v3 then (v5 >>> (v1 &&& 31)) else v3) h) (fun v6 =>
 (if v1 = 0 then
 xo_b (xh_ai .byte h a4 p1) (fun v7 =>
 xo_b (xb_chk .char (((v7 &&& 255).toUInt32 % 65536).toInt32)) (fun _ =>
 some (((v7 &&& 255).toUInt32 % 65536).toInt32))) else
 none)))))))
set_option maxHeartbeats 4000000 in
theorem K_J4_charAt {g : xm_G} (hG : xm_Gw g) (p0 : Nat) (p1 : Int32) (h : xm_H) {o : Int32} (e : F_J4_charAt g p0 p1 h = some o) {Q : xm_P} {X : xm_X} (hQ : Q (some (.int o)) h) : xm_Run g M_J4_charAt 10 [.ref p0, .int p1] h 0 0 Q X := by
  refine xm_Run.of pn_java_lang_AbstractStringBuilder (Nat.le_of_ble_eq_true rfl) (fun Γ hΓ => ?_)
  obtain ⟨P0, hP0, hp⟩ : ∃ P : Int32 → Prop, (∀ o, P o → Q (some (.int o)) h) ∧ P o := ⟨fun o => Q (some (.int o)) h, fun _ h => h, hQ⟩
  clear hQ
  show xm_W g Γ 0 [some (.ref p0), some (.int p1), none, none, none] [] h 0 0
  unfold F_J4_charAt at e
  refine xw_ald (show xm_Imp g Γ 0 (xi_ald 0 1) from xs_aload_n hΓ dJ4_charAt_0) rfl ?_
  obtain ⟨v1, e1, e⟩ := xo_b_s e
  refine xw_gi1 (o := (some p0)) (show xm_Imp g Γ 1 (xi_get 14 1 4) from xs_get hG hΓ (ci := 14) (kf := 1) rfl (Nat.le_of_ble_eq_true rfl) q329 dJ4_charAt_1) rfl e1 ?_
  refine xw_ist (ls' := [some (.ref p0), some (.int p1), some (.int v1), none, none]) (show xm_Imp g Γ 4 (xi_ist 2 5) from xs_istore_n hΓ dJ4_charAt_4 (Nat.le_of_ble_eq_true rfl)) rfl ?_
  refine xw_ald (show xm_Imp g Γ 5 (xi_ald 0 6) from xs_aload_n hΓ dJ4_charAt_5) rfl ?_
  obtain ⟨v2, e1, e⟩ := xo_b_s e
  refine xw_gr1 (o := (some p0)) (show xm_Imp g Γ 6 (xi_get 14 0 9) from xs_get hG hΓ (ci := 14) (kf := 0) rfl (Nat.le_of_ble_eq_true rfl) q328 dJ4_charAt_6) rfl e1 ?_
  refine xw_asto (x := v2) (ls' := [some (.ref p0), some (.int p1), some (.int v1), some (va_rf v2), none]) (show xm_Imp g Γ 9 (xi_ast 3 10) from xs_astore_n hΓ dJ4_charAt_9 (Nat.le_of_ble_eq_true rfl)) rfl ?_
  refine xw_ald (show xm_Imp g Γ 10 (xi_ald 0 11) from xs_aload_n hΓ dJ4_charAt_10) rfl ?_
  obtain ⟨v3, e1, e⟩ := xo_b_s e
  refine xw_gi1 (o := (some p0)) (show xm_Imp g Γ 11 (xi_get 14 3 14) from xs_get hG hΓ (ci := 14) (kf := 3) rfl (Nat.le_of_ble_eq_true rfl) q332 dJ4_charAt_11) rfl e1 ?_
  refine xw_aldo (x := v2) (show xm_Imp g Γ 14 (xi_ald 3 15) from xs_aload_n hΓ dJ4_charAt_14) rfl ?_
  obtain ⟨a4, ha4, e⟩ := xo_b_s e
  obtain ⟨v5, e1, e⟩ := xo_b_s e
  refine xw_hlen (o := v2) (show xm_Imp g Γ 15 (xi_len 16) from xs_len hG hΓ dJ4_charAt_15) ha4 e1 ?_
  refine xw_ild (show xm_Imp g Γ 16 (xi_ild 2 17) from xs_iload_n hΓ dJ4_charAt_16) rfl ?_
  refine xw_ii (show xm_Imp g Γ 17 (xi_ii (fun x y => x >>> (y &&& 31)) 18) from xs_ishr hΓ dJ4_charAt_17) ?_
  refine xw_mm (show xm_Imp g Γ 18 (xi_mm (fun x y => if y < x then y else x) 21) from xs_mmin hG hΓ rfl q1824 dJ4_charAt_18) rfl ?_
  refine xw_ist (ls' := [some (.ref p0), some (.int p1), some (.int v1), some (va_rf v2), some (.int (if (v5 >>> (v1 &&& 31)) < v3 then (v5 >>> (v1 &&& 31)) else v3))]) (show xm_Imp g Γ 21 (xi_ist 4 23) from xs_istore hΓ dJ4_charAt_21 (Nat.le_of_ble_eq_true rfl)) ((xm_s1_o (o := v2) rfl).trans rfl) ?_
  refine xw_ild (show xm_Imp g Γ 23 (xi_ild 1 24) from xs_iload_n hΓ dJ4_charAt_23) rfl ?_
  refine xw_ild (show xm_Imp g Γ 24 (xi_ild 4 26) from xs_iload hΓ dJ4_charAt_24) rfl ?_
  obtain ⟨v6, e1, e⟩ := xo_b_s e
  refine xw_su2 (show xm_Imp g Γ 26 (xi_inv g M_J6_checkIndex 9 2 29) from xs_invS hG hΓ k_J6_checkIndex rfl q1825 q509 dJ4_charAt_26) rfl (fun Q X hQ => K_J6_checkIndex hG p1 (if (v5 >>> (v1 &&& 31)) < v3 then (v5 >>> (v1 &&& 31)) else v3) _ e1 hQ) ?_
  refine xw_ild (show xm_Imp g Γ 29 (xi_ild 2 30) from xs_iload_n hΓ dJ4_charAt_29) rfl ?_
  refine xw_if (show xm_Imp g Γ 30 (xi_if (fun x => x = 0) 33 42) from xs_if_ne hΓ dJ4_charAt_30 (by decide)) (fun c => ?_) (fun c => ?_)
  · rw [if_pos c] at e
    refine xw_aldo (x := v2) (show xm_Imp g Γ 33 (xi_ald 3 34) from xs_aload_n hΓ dJ4_charAt_33) rfl ?_
    refine xw_ild (show xm_Imp g Γ 34 (xi_ild 1 35) from xs_iload_n hΓ dJ4_charAt_34) rfl ?_
    obtain ⟨v7, e1, e⟩ := xo_b_s e
    refine xw_hbal (o := v2) (show xm_Imp g Γ 35 (xi_bal 36) from xs_bal hG hΓ dJ4_charAt_35) ha4 e1 ?_
    refine xw_psh (v := (.int (255))) (show xm_Imp g Γ 36 (xi_psh (.int (255)) 39) from xs_sipush hΓ dJ4_charAt_36 (by decide)) ?_
    refine xw_ii (show xm_Imp g Γ 39 (xi_ii (fun x y => x &&& y) 40) from xs_iand hΓ dJ4_charAt_39) ?_
    refine xw_i1 (show xm_Imp g Γ 40 (xi_i1 (fun x => (x.toUInt32 % 65536).toInt32) 41) from xs_i2c hΓ dJ4_charAt_40) ?_
    obtain ⟨_, e1, e⟩ := xo_b_s e
    have hq := hP0 _ (xl_fin e hp)
    exact xw_iret (show xm_Imp g Γ 41 (xi_iret .char _) from xs_ireturn hΓ rfl dJ4_charAt_41) (xb_of e1) hq
  · rw [if_neg c] at e
    refine xw_aldo (x := v2) (show xm_Imp g Γ 42 (xi_ald 3 43) from xs_aload_n hΓ dJ4_charAt_42) rfl ?_
    refine xw_ild (show xm_Imp g Γ 43 (xi_ild 1 44) from xs_iload_n hΓ dJ4_charAt_43) rfl ?_
    cases e
noncomputable def F_J5_charAt (g : xm_G) (p0 : Nat) (p1 : Int32) (h : xm_H) : Option (Int32) :=
 xo_b (xh_is 14 h p0) (fun _ =>
 xo_b (F_J4_charAt g p0 p1 h) (fun v1 =>
 xo_b (xb_chk .char v1) (fun _ =>
 some v1)))
set_option maxHeartbeats 4000000 in
theorem K_J5_charAt {g : xm_G} (hG : xm_Gw g) (p0 : Nat) (p1 : Int32) (h : xm_H) {o : Int32} (e : F_J5_charAt g p0 p1 h = some o) {Q : xm_P} {X : xm_X} (hQ : Q (some (.int o)) h) : xm_Run g M_J5_charAt 11 [.ref p0, .int p1] h 0 0 Q X := by
  refine xm_Run.of pn_java_lang_StringBuilder (Nat.le_of_ble_eq_true rfl) (fun Γ hΓ => ?_)
  obtain ⟨P0, hP0, hp⟩ : ∃ P : Int32 → Prop, (∀ o, P o → Q (some (.int o)) h) ∧ P o := ⟨fun o => Q (some (.int o)) h, fun _ h => h, hQ⟩
  clear hQ
  show xm_W g Γ 0 [some (.ref p0), some (.int p1)] [] h 0 0
  unfold F_J5_charAt at e
  refine xw_ald (show xm_Imp g Γ 0 (xi_ald 0 1) from xs_aload_n hΓ dJ5_charAt_0) rfl ?_
  refine xw_ild (show xm_Imp g Γ 1 (xi_ild 1 2) from xs_iload_n hΓ dJ5_charAt_1) rfl ?_
  obtain ⟨_, e0, e⟩ := xo_b_s e
  obtain ⟨v1, e1, e⟩ := xo_b_s e
  refine xw_hv1 (o := (some p0)) (show xm_Imp g Γ 2 (xi_vir g 14 M_J4_charAt 10 1 5) from xs_invP hG hΓ k_J4_charAt rfl (ci := 14) rfl q1821 q3536 q341 q1822 (by decide) dJ5_charAt_2) rfl rfl e0 (fun Q X hQ => K_J4_charAt hG p0 p1 _ e1 hQ) ?_
  obtain ⟨_, e1, e⟩ := xo_b_s e
  have hq := hP0 _ (xl_fin e hp)
  exact xw_iret (show xm_Imp g Γ 5 (xi_iret .char _) from xs_ireturn hΓ rfl dJ5_charAt_5) (xb_of e1) hq
noncomputable def F_X1_outputByte (g : xm_G) (p0 : Nat) (p1 : Int32) (h : xm_H) : Option (Int32) :=
 xo_b (xh_fr [(0, 8)] h p0) (fun v1 =>
 xo_b v1 (fun a2 =>
 xo_b (xh_is 14 h a2) (fun _ =>
 xo_b (F_J5_length g a2 h) (fun v3 =>
 (if (F_X1_inRange p1 0 (v3 - 1)) = 0 then
 some (-1) else
 xo_b (xh_fr [(0, 8)] h p0) (fun v4 =>
 xo_b v4 (fun a5 =>
 xo_b (xh_is 14 h a5) (fun _ =>
 xo_b (F_J5_charAt g a5 p1 h) (fun v6 =>
 some v6)))))))))
set_option maxHeartbeats 4000000 in
theorem K_X1_outputByte {g : xm_G} (hG : xm_Gw g) (p0 : Nat) (p1 : Int32) (h : xm_H) {o : Int32} (e : F_X1_outputByte g p0 p1 h = some o) {Q : xm_P} {X : xm_X} (hQ : Q (some (.int o)) h) : xm_Run g M_X1_outputByte 12 [.ref p0, .int p1] h 0 0 Q X := by
  refine xm_Run.of pn_StringTableau (Nat.le_of_ble_eq_true rfl) (fun Γ hΓ => ?_)
  obtain ⟨P0, hP0, hp⟩ : ∃ P : Int32 → Prop, (∀ o, P o → Q (some (.int o)) h) ∧ P o := ⟨fun o => Q (some (.int o)) h, fun _ h => h, hQ⟩
  clear hQ
  show xm_W g Γ 0 [some (.ref p0), some (.int p1)] [] h 0 0
  unfold F_X1_outputByte at e
  refine xw_ild (show xm_Imp g Γ 0 (xi_ild 1 1) from xs_iload_n hΓ dX1_outputByte_0) rfl ?_
  refine xw_psh (v := (.int (0))) (show xm_Imp g Γ 1 (xi_psh (.int (0)) 2) from xs_iconst hΓ dX1_outputByte_1 (by decide)) ?_
  refine xw_ald (show xm_Imp g Γ 2 (xi_ald 0 3) from xs_aload_n hΓ dX1_outputByte_2) rfl ?_
  obtain ⟨v1, e1, e⟩ := xo_b_s e
  refine xw_gr1 (o := (some p0)) (show xm_Imp g Γ 3 (xi_get 0 8 6) from xs_get hG hΓ (ci := 0) (kf := 8) rfl (Nat.le_of_ble_eq_true rfl) q355 dX1_outputByte_3) rfl e1 ?_
  obtain ⟨a2, ha2, e⟩ := xo_b_s e
  obtain ⟨_, e0, e⟩ := xo_b_s e
  obtain ⟨v3, e1, e⟩ := xo_b_s e
  refine xw_hv0 (o := v1) (show xm_Imp g Γ 6 (xi_vir g 14 M_J5_length 2 0 9) from xs_invV hG hΓ k_J5_length rfl (ci := 14) rfl q1772 q536 q3535 dX1_outputByte_6) (by simp [xm_stk, xv_cat, xc_int, xc_long, xc_float, xc_double, xc_ref]) ha2 e0 (fun Q X hQ => K_J5_length hG a2 _ e1 hQ) ?_
  refine xw_psh (v := (.int (1))) (show xm_Imp g Γ 9 (xi_psh (.int (1)) 10) from xs_iconst hΓ dX1_outputByte_9 (by decide)) ?_
  refine xw_ii (show xm_Imp g Γ 10 (xi_ii (fun x y => x - y) 11) from xs_isub hΓ dX1_outputByte_10) ?_
  refine xw_sv3 (show xm_Imp g Γ 11 (xi_inv g M_X1_inRange 1 3 14) from xs_invS hG hΓ k_X1_inRange rfl q387 q388 dX1_outputByte_11) rfl (fun Q X hQ => K_X1_inRange hG p1 0 (v3 - 1) rfl hQ) ?_
  refine xw_if (show xm_Imp g Γ 14 (xi_if (fun x => x = 0) 28 17) from xs_if_eq hΓ dX1_outputByte_14 (by decide)) (fun c => ?_) (fun c => ?_)
  · rw [if_pos c] at e
    refine xw_psh (v := (.int (-1))) (show xm_Imp g Γ 28 (xi_psh (.int (-1)) 29) from xs_iconst hΓ dX1_outputByte_28 (by decide)) ?_
    have hq := hP0 _ (xl_fin e hp)
    exact xw_iret (show xm_Imp g Γ 29 (xi_iret .int _) from xs_ireturn hΓ rfl dX1_outputByte_29) (xn_int _) hq
  · rw [if_neg c] at e
    refine xw_ald (show xm_Imp g Γ 17 (xi_ald 0 18) from xs_aload_n hΓ dX1_outputByte_17) rfl ?_
    obtain ⟨v4, e1, e⟩ := xo_b_s e
    refine xw_gr1 (o := (some p0)) (show xm_Imp g Γ 18 (xi_get 0 8 21) from xs_get hG hΓ (ci := 0) (kf := 8) rfl (Nat.le_of_ble_eq_true rfl) q355 dX1_outputByte_18) rfl e1 ?_
    refine xw_ild (show xm_Imp g Γ 21 (xi_ild 1 22) from xs_iload_n hΓ dX1_outputByte_21) rfl ?_
    obtain ⟨a5, ha5, e⟩ := xo_b_s e
    obtain ⟨_, e0, e⟩ := xo_b_s e
    obtain ⟨v6, e1, e⟩ := xo_b_s e
    refine xw_hv1 (o := v4) (show xm_Imp g Γ 22 (xi_vir g 14 M_J5_charAt 11 1 25) from xs_invV hG hΓ k_J5_charAt rfl (ci := 14) rfl q1817 q1818 q1819 dX1_outputByte_22) (by simp [xm_stk, xv_cat, xc_int, xc_long, xc_float, xc_double, xc_ref]) ha5 e0 (fun Q X hQ => K_J5_charAt hG a5 p1 _ e1 hQ) ?_
    refine xw_goto (show xm_Imp g Γ 25 (xi_goto 29) from xs_goto hΓ dX1_outputByte_25 (by decide)) ?_
    have hq := hP0 _ (xl_fin e hp)
    exact xw_iret (show xm_Imp g Γ 29 (xi_iret .int _) from xs_ireturn hΓ rfl dX1_outputByte_29) (xn_int _) hq
noncomputable def F_X1_checkIndex (g : xm_G) (p0 : Int32) (h : xm_H) (bc : Nat) (bs : Nat) (Q : xm_H → Prop) (X : xm_X) : Prop :=
 (if p0 = 0 then
 (1 ≤ bc ∧ 6 ≤ bs) ∧ ∀ q : Nat, X "java/lang/IndexOutOfBoundsException" q h else
 Q h)
set_option maxHeartbeats 4000000 in
theorem K_X1_checkIndex {g : xm_G} (hG : xm_Gw g) (p0 : Int32) (h : xm_H) (bc : Nat) (bs : Nat) {Q : xm_H → Prop} {X : xm_X} (e : F_X1_checkIndex g p0 h bc bs Q X) : xm_Run g M_X1_checkIndex 8 [.int p0] h bc bs (fun v h' => v = none ∧ Q h') X := by
  refine xm_Run.of pn_StringTableau (Nat.le_of_ble_eq_true rfl) (fun Γ hΓ => ?_)
  show xm_W g Γ 0 [some (.int p0)] [] h bc bs
  unfold F_X1_checkIndex at e
  refine xw_ild (show xm_Imp g Γ 0 (xi_ild 0 1) from xs_iload_n hΓ dX1_checkIndex_0) rfl ?_
  refine xw_if (show xm_Imp g Γ 1 (xi_if (fun x => x = 0) 4 12) from xs_if_ne hΓ dX1_checkIndex_1 (by decide)) (fun c => ?_) (fun c => ?_)
  · rw [if_pos c] at e
    exact xw_thr0 (show xm_Imp g Γ 4 (xi_thr0 "java/lang/IndexOutOfBoundsException" X) from xs_thr0 hG hΓ (names := ["java/lang/RuntimeException", "java/lang/Exception"]) rfl rfl (by decide +kernel) (by decide +kernel) (by decide) q1840 q152 q1842 (xm_bl_of xm_at1) q577 q579 (lw_all_tbl q140) xm_s4 xm_s5 dX1_checkIndex_4 dX1_checkIndex_7 dX1_checkIndex_8 dX1_checkIndex_11) rfl e
  · rw [if_neg c] at e
    exact xw_vret (show xm_Imp g Γ 12 (xi_vret _) from xs_return hΓ rfl dX1_checkIndex_12) ⟨rfl, e⟩
noncomputable def B_X1_operation_34 (g : xm_G) (l0 : Nat) (l1 : Int32) (l2 : Int32) (s0 : Int32) (h : xm_H) (bc : Nat) (bs : Nat) (Q : Int32 → xm_H → Prop) (X : xm_X) : Prop :=
 xt_c bc bs (fun m4 m5 => F_X1_checkIndex g s0 h m4 m5 (fun h6 =>
 xt_b (xh_fr [(0, 1)] h6 l0) (fun v8 =>
 xt_b v8 (fun a9 =>
 xt_b (xh_is 12 h6 a9) (fun _ =>
 xt_b (F_J2_get g a9 l1 h6) (fun v10 =>
 xt_b (xh_castY "StringTableau$Operation" h6 v10) (fun _ =>
 (if l2 = 0 then
 xt_b v10 (fun a11 =>
 xt_b (xh_fi [(7, 0), (8, 0)] h6 a11) (fun v12 =>
 Q v12 h6)) else
 xt_b v10 (fun a13 =>
 xt_b (xh_ci h6 a13) (fun c14 =>
 (if c14 = 7 then
 xt_b (F_X9_property g a13 l2 h6) (fun v15 =>
 Q v15 h6) else
 (if c14 = 8 then
 xt_b (F_X10_property g a13 l2 h6) (fun v16 =>
 Q v16 h6) else
 False))))))))))) X)
noncomputable def F_X1_operation (g : xm_G) (p0 : Nat) (p1 : Int32) (p2 : Int32) (h : xm_H) (bc : Nat) (bs : Nat) (Q : Int32 → xm_H → Prop) (X : xm_X) : Prop :=
 xt_b (xh_fr [(0, 1)] h p0) (fun v1 =>
 xt_b v1 (fun a2 =>
 xt_b (xh_is 12 h a2) (fun _ =>
 xt_b (F_J2_size g a2 h) (fun v3 =>
 B_X1_operation_34 g p0 p1 p2 (if (F_X1_inRange p1 0 (v3 - 1)) = 0 then 0 else (if (F_X1_inRange p2 0 7) = 0 then 0 else 1)) h bc bs Q X))))
set_option maxHeartbeats 4000000 in
theorem K_X1_operation {g : xm_G} (hG : xm_Gw g) (p0 : Nat) (p1 : Int32) (p2 : Int32) (h : xm_H) (bc : Nat) (bs : Nat) {Q : Int32 → xm_H → Prop} {X : xm_X} (e : F_X1_operation g p0 p1 p2 h bc bs Q X) : xm_Run g M_X1_operation 11 [.ref p0, .int p1, .int p2] h bc bs (fun v h' => ∃ r, v = some (.int r) ∧ Q r h') X := by
  refine xm_Run.of pn_StringTableau (Nat.le_of_ble_eq_true rfl) (fun Γ hΓ => ?_)
  show xm_W g Γ 0 [some (.ref p0), some (.int p1), some (.int p2), none] [] h bc bs
  have hB_34 : ∀ (l0 : Nat) (l1 : Int32) (l2 : Int32) (s0 : Int32) (h : xm_H) (bc : Nat) (bs : Nat), B_X1_operation_34 g l0 l1 l2 s0 h bc bs Q X → xm_W g Γ 34 [some (.ref l0), some (.int l1), some (.int l2), none] [.int s0] h bc bs := by
    intro l0 l1 l2 s0 h bc bs e
    unfold B_X1_operation_34 at e
    obtain ⟨m4, m5, ⟨em1, em2⟩, e⟩ := e
    refine xw_tXsu1 (show xm_Imp g Γ 34 (xi_invX g M_X1_checkIndex 8 1 37 X) from xs_invSX hG hΓ k_X1_checkIndex rfl rfl q1837 q1838 dX1_operation_34) rfl em1 em2 (K_X1_checkIndex hG s0 _ _ _ e) (fun h6 e => ?_)
    refine xw_ald (show xm_Imp g Γ 37 (xi_ald 0 38) from xs_aload_n hΓ dX1_operation_37) rfl ?_
    obtain ⟨v8, e1, e⟩ := e
    refine xw_gr1 (o := (some l0)) (show xm_Imp g Γ 38 (xi_get 0 1 41) from xs_get hG hΓ (ci := 0) (kf := 1) rfl (Nat.le_of_ble_eq_true rfl) q346 dX1_operation_38) rfl e1 ?_
    refine xw_ild (show xm_Imp g Γ 41 (xi_ild 1 42) from xs_iload_n hΓ dX1_operation_41) rfl ?_
    obtain ⟨a9, ha9, e⟩ := e
    obtain ⟨_, e0, e⟩ := e
    obtain ⟨v10, e1, e⟩ := e
    refine xw_hv1 (o := v8) (show xm_Imp g Γ 42 (xi_vir g 12 M_J2_get 10 1 47) from xs_invF hG hΓ k_J2_get rfl (ci := 12) rfl q1148 q1153 q1151 ⟨by decide, by decide⟩ (by decide +kernel) q1150 q1149 q1154 q1152 q903 dX1_operation_42) (by simp [xm_stk, xv_cat, xc_int, xc_long, xc_float, xc_double, xc_ref]) ha9 e0 (fun Q X hQ => K_J2_get hG a9 l1 _ e1 hQ) ?_
    obtain ⟨_, e1, e⟩ := e
    refine xw_castY (o := v10) (show xm_Imp g Γ 47 (xi_castY "StringTableau$Operation" 50) from xs_castY hG hΓ q1180 dX1_operation_47) e1 ?_
    refine xw_asto (x := v10) (ls' := [some (.ref l0), some (.int l1), some (.int l2), some (va_rf v10)]) (show xm_Imp g Γ 50 (xi_ast 3 51) from xs_astore_n hΓ dX1_operation_50 (Nat.le_of_ble_eq_true rfl)) rfl ?_
    refine xw_ild (show xm_Imp g Γ 51 (xi_ild 2 52) from xs_iload_n hΓ dX1_operation_51) rfl ?_
    refine xw_if (show xm_Imp g Γ 52 (xi_if (fun x => x = 0) 55 62) from xs_if_ne hΓ dX1_operation_52 (by decide)) (fun c => ?_) (fun c => ?_)
    · rw [if_pos c] at e
      refine xw_aldo (x := v10) (show xm_Imp g Γ 55 (xi_ald 3 56) from xs_aload_n hΓ dX1_operation_55) rfl ?_
      obtain ⟨a11, ha11, e⟩ := e
      obtain ⟨v12, e1, e⟩ := e
      refine xw_gi2 (o := v10) (xm_or1 (show xm_Imp g Γ 56 (xi_or (xi_get 7 0 59) (xi_get 8 0 59)) from xs_or (xs_getN hG hΓ (ci := 7) (kf := 0) rfl (Nat.le_of_ble_eq_true rfl) q1002 dX1_operation_56) (xs_getN hG hΓ (ci := 8) (kf := 0) rfl (Nat.le_of_ble_eq_true rfl) q1002 dX1_operation_56))) (xm_or2 (show xm_Imp g Γ 56 (xi_or (xi_get 7 0 59) (xi_get 8 0 59)) from xs_or (xs_getN hG hΓ (ci := 7) (kf := 0) rfl (Nat.le_of_ble_eq_true rfl) q1002 dX1_operation_56) (xs_getN hG hΓ (ci := 8) (kf := 0) rfl (Nat.le_of_ble_eq_true rfl) q1002 dX1_operation_56))) ha11 e1 ?_
      refine xw_goto (show xm_Imp g Γ 59 (xi_goto 67) from xs_goto hΓ dX1_operation_59 (by decide)) ?_
      exact xw_iret (show xm_Imp g Γ 67 (xi_iret .int _) from xs_ireturn hΓ rfl dX1_operation_67) (xn_int _) ⟨_, rfl, e⟩
    · rw [if_neg c] at e
      refine xw_aldo (x := v10) (show xm_Imp g Γ 62 (xi_ald 3 63) from xs_aload_n hΓ dX1_operation_62) rfl ?_
      refine xw_ild (show xm_Imp g Γ 63 (xi_ild 2 64) from xs_iload_n hΓ dX1_operation_63) rfl ?_
      obtain ⟨a13, ha13, e⟩ := e
      obtain ⟨c14, e0, e⟩ := e
      by_cases cc0 : c14 = 7
      · rw [if_pos cc0] at e
        obtain ⟨v15, e1, e⟩ := e
        refine xw_hv1 (o := v10) (xm_or1 (show xm_Imp g Γ 64 (xi_or (xi_vir g 7 M_X9_property 2 1 67) (xi_vir g 8 M_X10_property 1 1 67)) from xs_or (xs_invA hG hΓ (owner := "StringTableau$Operation") k_X9_property rfl (ci := 7) rfl q1781 q1783 q1788 q1787 q1782 ⟨by decide, by decide⟩ (by decide +kernel) dX1_operation_64) (xs_invA hG hΓ (owner := "StringTableau$Operation") k_X10_property rfl (ci := 8) rfl q1781 q1783 q1785 q1784 q1782 ⟨by decide, by decide⟩ (by decide +kernel) dX1_operation_64))) (by simp [xm_stk, xv_cat, xc_int, xc_long, xc_float, xc_double, xc_ref]) ha13 (xh_is_of e0 cc0) (fun Q X hQ => K_X9_property hG a13 l2 _ e1 hQ) ?_
        exact xw_iret (show xm_Imp g Γ 67 (xi_iret .int _) from xs_ireturn hΓ rfl dX1_operation_67) (xn_int _) ⟨_, rfl, e⟩
      rw [if_neg cc0] at e
      by_cases cc1 : c14 = 8
      · rw [if_pos cc1] at e
        obtain ⟨v16, e1, e⟩ := e
        refine xw_hv1 (o := v10) (xm_or2 (show xm_Imp g Γ 64 (xi_or (xi_vir g 7 M_X9_property 2 1 67) (xi_vir g 8 M_X10_property 1 1 67)) from xs_or (xs_invA hG hΓ (owner := "StringTableau$Operation") k_X9_property rfl (ci := 7) rfl q1781 q1783 q1788 q1787 q1782 ⟨by decide, by decide⟩ (by decide +kernel) dX1_operation_64) (xs_invA hG hΓ (owner := "StringTableau$Operation") k_X10_property rfl (ci := 8) rfl q1781 q1783 q1785 q1784 q1782 ⟨by decide, by decide⟩ (by decide +kernel) dX1_operation_64))) (by simp [xm_stk, xv_cat, xc_int, xc_long, xc_float, xc_double, xc_ref]) ha13 (xh_is_of e0 cc1) (fun Q X hQ => K_X10_property hG a13 l2 _ e1 hQ) ?_
        exact xw_iret (show xm_Imp g Γ 67 (xi_iret .int _) from xs_ireturn hΓ rfl dX1_operation_67) (xn_int _) ⟨_, rfl, e⟩
      rw [if_neg cc1] at e
      exact e.elim
  unfold F_X1_operation at e
  refine xw_ild (show xm_Imp g Γ 0 (xi_ild 1 1) from xs_iload_n hΓ dX1_operation_0) rfl ?_
  refine xw_psh (v := (.int (0))) (show xm_Imp g Γ 1 (xi_psh (.int (0)) 2) from xs_iconst hΓ dX1_operation_1 (by decide)) ?_
  refine xw_ald (show xm_Imp g Γ 2 (xi_ald 0 3) from xs_aload_n hΓ dX1_operation_2) rfl ?_
  obtain ⟨v1, e1, e⟩ := e
  refine xw_gr1 (o := (some p0)) (show xm_Imp g Γ 3 (xi_get 0 1 6) from xs_get hG hΓ (ci := 0) (kf := 1) rfl (Nat.le_of_ble_eq_true rfl) q346 dX1_operation_3) rfl e1 ?_
  obtain ⟨a2, ha2, e⟩ := e
  obtain ⟨_, e0, e⟩ := e
  obtain ⟨v3, e1, e⟩ := e
  refine xw_hv0 (o := v1) (show xm_Imp g Γ 6 (xi_vir g 12 M_J2_size 1 0 11) from xs_invF hG hΓ k_J2_size rfl (ci := 12) rfl q1126 q906 q904 ⟨by decide, by decide⟩ (by decide +kernel) q902 q901 q907 q905 q903 dX1_operation_6) (by simp [xm_stk, xv_cat, xc_int, xc_long, xc_float, xc_double, xc_ref]) ha2 e0 (fun Q X hQ => K_J2_size hG a2 _ e1 hQ) ?_
  refine xw_psh (v := (.int (1))) (show xm_Imp g Γ 11 (xi_psh (.int (1)) 12) from xs_iconst hΓ dX1_operation_11 (by decide)) ?_
  refine xw_ii (show xm_Imp g Γ 12 (xi_ii (fun x y => x - y) 13) from xs_isub hΓ dX1_operation_12) ?_
  refine xw_sv3 (show xm_Imp g Γ 13 (xi_inv g M_X1_inRange 1 3 16) from xs_invS hG hΓ k_X1_inRange rfl q387 q388 dX1_operation_13) rfl (fun Q X hQ => K_X1_inRange hG p1 0 (v3 - 1) rfl hQ) ?_
  refine xw_if (show xm_Imp g Γ 16 (xi_if (fun x => x = 0) 33 19) from xs_if_eq hΓ dX1_operation_16 (by decide)) (fun c => ?_) (fun c => ?_)
  · rw [if_pos c] at e
    refine xw_psh (v := (.int (0))) (show xm_Imp g Γ 33 (xi_psh (.int (0)) 34) from xs_iconst hΓ dX1_operation_33 (by decide)) ?_
    exact hB_34 _ _ _ _ _ _ _ e
  · rw [if_neg c] at e
    refine xw_ild (show xm_Imp g Γ 19 (xi_ild 2 20) from xs_iload_n hΓ dX1_operation_19) rfl ?_
    refine xw_psh (v := (.int (0))) (show xm_Imp g Γ 20 (xi_psh (.int (0)) 21) from xs_iconst hΓ dX1_operation_20 (by decide)) ?_
    refine xw_psh (v := (.int (7))) (show xm_Imp g Γ 21 (xi_psh (.int (7)) 23) from xs_bipush hΓ dX1_operation_21 (by decide)) ?_
    refine xw_sv3 (show xm_Imp g Γ 23 (xi_inv g M_X1_inRange 1 3 26) from xs_invS hG hΓ k_X1_inRange rfl q387 q388 dX1_operation_23) rfl (fun Q X hQ => K_X1_inRange hG p2 0 7 rfl hQ) ?_
    refine xw_if (show xm_Imp g Γ 26 (xi_if (fun x => x = 0) 33 29) from xs_if_eq hΓ dX1_operation_26 (by decide)) (fun c => ?_) (fun c => ?_)
    · rw [if_pos c] at e
      refine xw_psh (v := (.int (0))) (show xm_Imp g Γ 33 (xi_psh (.int (0)) 34) from xs_iconst hΓ dX1_operation_33 (by decide)) ?_
      exact hB_34 _ _ _ _ _ _ _ e
    · rw [if_neg c] at e
      refine xw_psh (v := (.int (1))) (show xm_Imp g Γ 29 (xi_psh (.int (1)) 30) from xs_iconst hΓ dX1_operation_29 (by decide)) ?_
      refine xw_goto (show xm_Imp g Γ 30 (xi_goto 34) from xs_goto hΓ dX1_operation_30 (by decide)) ?_
      exact hB_34 _ _ _ _ _ _ _ e
noncomputable def F_X1_checkQubit (g : xm_G) (p0 : Nat) (p1 : Int32) (h : xm_H) (bc : Nat) (bs : Nat) (Q : xm_H → Prop) (X : xm_X) : Prop :=
 xt_b (xh_is 0 h p0) (fun _ =>
 xt_b (F_X1_qubits g p0 h) (fun v1 =>
 xt_c bc bs (fun m2 m3 => F_X1_checkIndex g (F_X1_inRange p1 0 (v1 - 1)) h m2 m3 (fun h4 =>
 Q h4) X)))
set_option maxHeartbeats 4000000 in
theorem K_X1_checkQubit {g : xm_G} (hG : xm_Gw g) (p0 : Nat) (p1 : Int32) (h : xm_H) (bc : Nat) (bs : Nat) {Q : xm_H → Prop} {X : xm_X} (e : F_X1_checkQubit g p0 p1 h bc bs Q X) : xm_Run g M_X1_checkQubit 9 [.ref p0, .int p1] h bc bs (fun v h' => v = none ∧ Q h') X := by
  refine xm_Run.of pn_StringTableau (Nat.le_of_ble_eq_true rfl) (fun Γ hΓ => ?_)
  show xm_W g Γ 0 [some (.ref p0), some (.int p1)] [] h bc bs
  unfold F_X1_checkQubit at e
  refine xw_ild (show xm_Imp g Γ 0 (xi_ild 1 1) from xs_iload_n hΓ dX1_checkQubit_0) rfl ?_
  refine xw_psh (v := (.int (0))) (show xm_Imp g Γ 1 (xi_psh (.int (0)) 2) from xs_iconst hΓ dX1_checkQubit_1 (by decide)) ?_
  refine xw_ald (show xm_Imp g Γ 2 (xi_ald 0 3) from xs_aload_n hΓ dX1_checkQubit_2) rfl ?_
  obtain ⟨_, e0, e⟩ := e
  obtain ⟨v1, e1, e⟩ := e
  refine xw_hv0 (o := (some p0)) (show xm_Imp g Γ 3 (xi_vir g 0 M_X1_qubits 1 0 6) from xs_invV hG hΓ k_X1_qubits rfl (ci := 0) rfl q1139 q1141 qs20 dX1_checkQubit_3) rfl rfl e0 (fun Q X hQ => K_X1_qubits hG p0 _ e1 hQ) ?_
  refine xw_psh (v := (.int (1))) (show xm_Imp g Γ 6 (xi_psh (.int (1)) 7) from xs_iconst hΓ dX1_checkQubit_6 (by decide)) ?_
  refine xw_ii (show xm_Imp g Γ 7 (xi_ii (fun x y => x - y) 8) from xs_isub hΓ dX1_checkQubit_7) ?_
  refine xw_sv3 (show xm_Imp g Γ 8 (xi_inv g M_X1_inRange 1 3 11) from xs_invS hG hΓ k_X1_inRange rfl q387 q388 dX1_checkQubit_8) rfl (fun Q X hQ => K_X1_inRange hG p1 0 (v1 - 1) rfl hQ) ?_
  obtain ⟨m2, m3, ⟨em1, em2⟩, e⟩ := e
  refine xw_tXsu1 (show xm_Imp g Γ 11 (xi_invX g M_X1_checkIndex 8 1 14 X) from xs_invSX hG hΓ k_X1_checkIndex rfl rfl q1837 q1838 dX1_checkQubit_11) rfl em1 em2 (K_X1_checkIndex hG (F_X1_inRange p1 0 (v1 - 1)) _ _ _ e) (fun h4 e => ?_)
  exact xw_vret (show xm_Imp g Γ 14 (xi_vret _) from xs_return hΓ rfl dX1_checkQubit_14) ⟨rfl, e⟩
noncomputable def F_X1_checkArgument (g : xm_G) (p0 : Int32) (h : xm_H) (bc : Nat) (bs : Nat) (Q : xm_H → Prop) (X : xm_X) : Prop :=
 (if p0 = 0 then
 (1 ≤ bc ∧ 6 ≤ bs) ∧ ∀ q : Nat, X "java/lang/IllegalArgumentException" q h else
 Q h)
set_option maxHeartbeats 4000000 in
theorem K_X1_checkArgument {g : xm_G} (hG : xm_Gw g) (p0 : Int32) (h : xm_H) (bc : Nat) (bs : Nat) {Q : xm_H → Prop} {X : xm_X} (e : F_X1_checkArgument g p0 h bc bs Q X) : xm_Run g M_X1_checkArgument 8 [.int p0] h bc bs (fun v h' => v = none ∧ Q h') X := by
  refine xm_Run.of pn_StringTableau (Nat.le_of_ble_eq_true rfl) (fun Γ hΓ => ?_)
  show xm_W g Γ 0 [some (.int p0)] [] h bc bs
  unfold F_X1_checkArgument at e
  refine xw_ild (show xm_Imp g Γ 0 (xi_ild 0 1) from xs_iload_n hΓ dX1_checkArgument_0) rfl ?_
  refine xw_if (show xm_Imp g Γ 1 (xi_if (fun x => x = 0) 4 12) from xs_if_ne hΓ dX1_checkArgument_1 (by decide)) (fun c => ?_) (fun c => ?_)
  · rw [if_pos c] at e
    exact xw_thr0 (show xm_Imp g Γ 4 (xi_thr0 "java/lang/IllegalArgumentException" X) from xs_thr0 hG hΓ (names := ["java/lang/RuntimeException", "java/lang/Exception"]) rfl rfl (by decide +kernel) (by decide +kernel) (by decide) q1871 q143 q552 (xm_bl_of xm_at2) q577 q579 (lw_all_tbl q140) xm_s4 xm_s5 dX1_checkArgument_4 dX1_checkArgument_7 dX1_checkArgument_8 dX1_checkArgument_11) rfl e
  · rw [if_neg c] at e
    exact xw_vret (show xm_Imp g Γ 12 (xi_vret _) from xs_return hΓ rfl dX1_checkArgument_12) ⟨rfl, e⟩
noncomputable def B_X1_gate_78 (g : xm_G) (l0 : Nat) (l4 : Option Nat) (s0 : Option Nat) (s1 : Int32) (s2 : Int32) (s3 : Int32) (h : xm_H) (bc : Nat) (bs : Nat) (Q : Int32 → xm_H → Prop) (X : xm_X) : Prop :=
 xt_b s0 (fun a17 =>
 xt_b (xh_is 1 h a17) (fun _ =>
 xt_c bc bs (fun m18 m19 => F_X2_gateOnTrail g a17 s1 s2 s3 h m18 m19 (fun h20 =>
 xt_b (xh_fr [(0, 0)] h20 l0) (fun v22 =>
 xt_b v22 (fun a23 =>
 xt_b (xh_fr [(1, 0)] h20 a23) (fun v24 =>
 xt_b v24 (fun a25 =>
 xt_b (xh_is 2 h20 a25) (fun _ =>
 xt_b (F_X3_difference g a25 l4 h20) (fun v26 =>
 Q v26 h20))))))))))
noncomputable def B_X1_gate_44 (g : xm_G) (l0 : Nat) (l1 : Int32) (l2 : Int32) (l3 : Int32) (s0 : Int32) (h : xm_H) (bc : Nat) (bs : Nat) (Q : Int32 → xm_H → Prop) (X : xm_X) : Prop :=
 xt_c bc bs (fun m5 m6 => F_X1_checkArgument g s0 h m5 m6 (fun h7 =>
 xt_b (xh_fr [(0, 0)] h7 l0) (fun v9 =>
 xt_b v9 (fun a10 =>
 xt_b (xh_fr [(1, 0)] h7 a10) (fun v11 =>
 xt_b (xh_is 0 h7 l0) (fun _ =>
 xt_c (bc - m5) (bs - m6) (fun m12 m13 => F_X1_remember g l0 h7 m12 m13 (fun h14 =>
 xt_b (xh_fr [(0, 0)] h14 l0) (fun v16 =>
 B_X1_gate_78 g l0 v11 v16 l1 l2 (if (F_X1_isDouble l1) = 0 then (-1) else l3) h14 ((bc - m5) - m12) ((bs - m6) - m13) Q X)))))))) X)
noncomputable def B_X1_gate_17 (g : xm_G) (l0 : Nat) (l1 : Int32) (l2 : Int32) (l3 : Int32) (h : xm_H) (bc : Nat) (bs : Nat) (Q : Int32 → xm_H → Prop) (X : xm_X) : Prop :=
 B_X1_gate_44 g l0 l1 l2 l3 (if (F_X1_inRange l1 0 8) = 0 then 0 else (if (F_X1_isDouble l1) = 0 then 1 else (if l2 = l3 then 0 else 1))) h bc bs Q X
noncomputable def F_X1_gate (g : xm_G) (p0 : Nat) (p1 : Int32) (p2 : Int32) (p3 : Int32) (h : xm_H) (bc : Nat) (bs : Nat) (Q : Int32 → xm_H → Prop) (X : xm_X) : Prop :=
 xt_b (xh_is 0 h p0) (fun _ =>
 xt_c bc bs (fun m1 m2 => F_X1_checkQubit g p0 p2 h m1 m2 (fun h3 =>
 (if (F_X1_isDouble p1) = 0 then
 B_X1_gate_17 g p0 p1 p2 p3 h3 (bc - m1) (bs - m2) Q X else
 xt_b (xh_is 0 h3 p0) (fun _ =>
 xt_c (bc - m1) (bs - m2) (fun m27 m28 => F_X1_checkQubit g p0 p3 h3 m27 m28 (fun h29 =>
 B_X1_gate_17 g p0 p1 p2 p3 h29 ((bc - m1) - m27) ((bs - m2) - m28) Q X) X)))) X))
set_option maxHeartbeats 4000000 in
theorem K_X1_gate {g : xm_G} (hG : xm_Gw g) (p0 : Nat) (p1 : Int32) (p2 : Int32) (p3 : Int32) (h : xm_H) (bc : Nat) (bs : Nat) {Q : Int32 → xm_H → Prop} {X : xm_X} (e : F_X1_gate g p0 p1 p2 p3 h bc bs Q X) : xm_Run g M_X1_gate 13 [.ref p0, .int p1, .int p2, .int p3] h bc bs (fun v h' => ∃ r, v = some (.int r) ∧ Q r h') X := by
  refine xm_Run.of pn_StringTableau (Nat.le_of_ble_eq_true rfl) (fun Γ hΓ => ?_)
  show xm_W g Γ 0 [some (.ref p0), some (.int p1), some (.int p2), some (.int p3), none] [] h bc bs
  have hB_78 : ∀ (l0 : Nat) (l4 : Option Nat) (s0 : Option Nat) (s1 : Int32) (s2 : Int32) (s3 : Int32) (h : xm_H) (bc : Nat) (bs : Nat), B_X1_gate_78 g l0 l4 s0 s1 s2 s3 h bc bs Q X → xm_W g Γ 78 [some (.ref l0), none, none, none, some (va_rf l4)] [.int s3, .int s2, .int s1, va_rf s0] h bc bs := by
    intro l0 l4 s0 s1 s2 s3 h bc bs e
    unfold B_X1_gate_78 at e
    obtain ⟨a17, ha17, e⟩ := e
    obtain ⟨_, e0, e⟩ := e
    obtain ⟨m18, m19, ⟨em1, em2⟩, e⟩ := e
    refine xw_tvu3 (o := s0) (show xm_Imp g Γ 78 (xi_vir g 1 M_X2_gateOnTrail 11 3 81) from xs_invV hG hΓ k_X2_gateOnTrail rfl (ci := 1) rfl q1876 q1469 q1470 dX1_gate_78) (by simp [xm_stk, xv_cat, xc_int, xc_long, xc_float, xc_double, xc_ref]) ha17 e0 em1 em2 (K_X2_gateOnTrail hG a17 s1 s2 s3 _ _ _ e) (fun h20 e => ?_)
    refine xw_ald (show xm_Imp g Γ 81 (xi_ald 0 82) from xs_aload_n hΓ dX1_gate_81) rfl ?_
    obtain ⟨v22, e1, e⟩ := e
    refine xw_gr1 (o := (some l0)) (show xm_Imp g Γ 82 (xi_get 0 0 85) from xs_get hG hΓ (ci := 0) (kf := 0) rfl (Nat.le_of_ble_eq_true rfl) q343 dX1_gate_82) rfl e1 ?_
    obtain ⟨a23, ha23, e⟩ := e
    obtain ⟨v24, e1, e⟩ := e
    refine xw_gr1 (o := v22) (show xm_Imp g Γ 85 (xi_get 1 0 88) from xs_getN hG hΓ (ci := 1) (kf := 0) rfl (Nat.le_of_ble_eq_true rfl) q276 dX1_gate_85) ha23 e1 ?_
    refine xw_aldo (x := l4) (show xm_Imp g Γ 88 (xi_ald 4 90) from xs_aload hΓ dX1_gate_88) rfl ?_
    obtain ⟨a25, ha25, e⟩ := e
    obtain ⟨_, e0, e⟩ := e
    obtain ⟨v26, e1, e⟩ := e
    refine xw_hv1 (o := v24) (show xm_Imp g Γ 90 (xi_vir g 2 M_X3_difference 2 1 93) from xs_invV hG hΓ k_X3_difference rfl (ci := 2) rfl q1625 q1626 q1627 dX1_gate_90) (by simp [xm_stk, xv_cat, xc_int, xc_long, xc_float, xc_double, xc_ref]) ha25 e0 (fun Q X hQ => K_X3_difference hG a25 l4 _ e1 hQ) ?_
    exact xw_iret (show xm_Imp g Γ 93 (xi_iret .int _) from xs_ireturn hΓ rfl dX1_gate_93) (xn_int _) ⟨_, rfl, e⟩
  have hB_44 : ∀ (l0 : Nat) (l1 : Int32) (l2 : Int32) (l3 : Int32) (s0 : Int32) (h : xm_H) (bc : Nat) (bs : Nat), B_X1_gate_44 g l0 l1 l2 l3 s0 h bc bs Q X → xm_W g Γ 44 [some (.ref l0), some (.int l1), some (.int l2), some (.int l3), none] [.int s0] h bc bs := by
    intro l0 l1 l2 l3 s0 h bc bs e
    unfold B_X1_gate_44 at e
    obtain ⟨m5, m6, ⟨em1, em2⟩, e⟩ := e
    refine xw_tXsu1 (show xm_Imp g Γ 44 (xi_invX g M_X1_checkArgument 8 1 47 X) from xs_invSX hG hΓ k_X1_checkArgument rfl rfl q1868 q1869 dX1_gate_44) rfl em1 em2 (K_X1_checkArgument hG s0 _ _ _ e) (fun h7 e => ?_)
    refine xw_ald (show xm_Imp g Γ 47 (xi_ald 0 48) from xs_aload_n hΓ dX1_gate_47) rfl ?_
    obtain ⟨v9, e1, e⟩ := e
    refine xw_gr1 (o := (some l0)) (show xm_Imp g Γ 48 (xi_get 0 0 51) from xs_get hG hΓ (ci := 0) (kf := 0) rfl (Nat.le_of_ble_eq_true rfl) q343 dX1_gate_48) rfl e1 ?_
    obtain ⟨a10, ha10, e⟩ := e
    obtain ⟨v11, e1, e⟩ := e
    refine xw_gr1 (o := v9) (show xm_Imp g Γ 51 (xi_get 1 0 54) from xs_getN hG hΓ (ci := 1) (kf := 0) rfl (Nat.le_of_ble_eq_true rfl) q276 dX1_gate_51) ha10 e1 ?_
    refine xw_asto (x := v11) (ls' := [some (.ref l0), some (.int l1), some (.int l2), some (.int l3), some (va_rf v11)]) (show xm_Imp g Γ 54 (xi_ast 4 56) from xs_astore hΓ dX1_gate_54 (Nat.le_of_ble_eq_true rfl)) rfl ?_
    refine xw_ald (show xm_Imp g Γ 56 (xi_ald 0 57) from xs_aload_n hΓ dX1_gate_56) rfl ?_
    obtain ⟨_, e0, e⟩ := e
    obtain ⟨m12, m13, ⟨em1, em2⟩, e⟩ := e
    refine xw_tvu0 (o := (some l0)) (show xm_Imp g Γ 57 (xi_vir g 0 M_X1_remember 12 0 60) from xs_invV hG hΓ k_X1_remember rfl (ci := 0) rfl q1243 q1245 qs23 dX1_gate_57) rfl rfl e0 em1 em2 (K_X1_remember hG l0 _ _ _ e) (fun h14 e => ?_)
    refine xw_ald (show xm_Imp g Γ 60 (xi_ald 0 61) from xs_aload_n hΓ dX1_gate_60) rfl ?_
    obtain ⟨v16, e1, e⟩ := e
    refine xw_gr1 (o := (some l0)) (show xm_Imp g Γ 61 (xi_get 0 0 64) from xs_get hG hΓ (ci := 0) (kf := 0) rfl (Nat.le_of_ble_eq_true rfl) q343 dX1_gate_61) rfl e1 ?_
    refine xw_ild (show xm_Imp g Γ 64 (xi_ild 1 65) from xs_iload_n hΓ dX1_gate_64) rfl ?_
    refine xw_ild (show xm_Imp g Γ 65 (xi_ild 2 66) from xs_iload_n hΓ dX1_gate_65) rfl ?_
    refine xw_ild (show xm_Imp g Γ 66 (xi_ild 1 67) from xs_iload_n hΓ dX1_gate_66) rfl ?_
    refine xw_sv1 (show xm_Imp g Γ 67 (xi_inv g M_X1_isDouble 2 1 70) from xs_invS hG hΓ k_X1_isDouble rfl q1867 q1090 dX1_gate_67) (by simp [xm_stk, xv_cat, xc_int, xc_long, xc_float, xc_double, xc_ref]) (fun Q X hQ => K_X1_isDouble hG l1 rfl hQ) ?_
    refine xw_if (show xm_Imp g Γ 70 (xi_if (fun x => x = 0) 77 73) from xs_if_eq hΓ dX1_gate_70 (by decide)) (fun c => ?_) (fun c => ?_)
    · rw [if_pos c] at e
      refine xw_psh (v := (.int (-1))) (show xm_Imp g Γ 77 (xi_psh (.int (-1)) 78) from xs_iconst hΓ dX1_gate_77 (by decide)) ?_
      exact xm_lx (hB_78 _ _ _ _ _ _ _ _ _ e) (And.intro rfl (And.intro rfl (trivial)))
    · rw [if_neg c] at e
      refine xw_ild (show xm_Imp g Γ 73 (xi_ild 3 74) from xs_iload_n hΓ dX1_gate_73) rfl ?_
      refine xw_goto (show xm_Imp g Γ 74 (xi_goto 78) from xs_goto hΓ dX1_gate_74 (by decide)) ?_
      exact xm_lx (hB_78 _ _ _ _ _ _ _ _ _ e) (And.intro rfl (And.intro rfl (trivial)))
  have hB_17 : ∀ (l0 : Nat) (l1 : Int32) (l2 : Int32) (l3 : Int32) (h : xm_H) (bc : Nat) (bs : Nat), B_X1_gate_17 g l0 l1 l2 l3 h bc bs Q X → xm_W g Γ 17 [some (.ref l0), some (.int l1), some (.int l2), some (.int l3), none] [] h bc bs := by
    intro l0 l1 l2 l3 h bc bs e
    unfold B_X1_gate_17 at e
    refine xw_ild (show xm_Imp g Γ 17 (xi_ild 1 18) from xs_iload_n hΓ dX1_gate_17) rfl ?_
    refine xw_psh (v := (.int (0))) (show xm_Imp g Γ 18 (xi_psh (.int (0)) 19) from xs_iconst hΓ dX1_gate_18 (by decide)) ?_
    refine xw_psh (v := (.int (8))) (show xm_Imp g Γ 19 (xi_psh (.int (8)) 21) from xs_bipush hΓ dX1_gate_19 (by decide)) ?_
    refine xw_sv3 (show xm_Imp g Γ 21 (xi_inv g M_X1_inRange 1 3 24) from xs_invS hG hΓ k_X1_inRange rfl q387 q388 dX1_gate_21) rfl (fun Q X hQ => K_X1_inRange hG l1 0 8 rfl hQ) ?_
    refine xw_if (show xm_Imp g Γ 24 (xi_if (fun x => x = 0) 43 27) from xs_if_eq hΓ dX1_gate_24 (by decide)) (fun c => ?_) (fun c => ?_)
    · rw [if_pos c] at e
      refine xw_psh (v := (.int (0))) (show xm_Imp g Γ 43 (xi_psh (.int (0)) 44) from xs_iconst hΓ dX1_gate_43 (by decide)) ?_
      exact hB_44 _ _ _ _ _ _ _ _ e
    · rw [if_neg c] at e
      refine xw_ild (show xm_Imp g Γ 27 (xi_ild 1 28) from xs_iload_n hΓ dX1_gate_27) rfl ?_
      refine xw_sv1 (show xm_Imp g Γ 28 (xi_inv g M_X1_isDouble 2 1 31) from xs_invS hG hΓ k_X1_isDouble rfl q1867 q1090 dX1_gate_28) rfl (fun Q X hQ => K_X1_isDouble hG l1 rfl hQ) ?_
      refine xw_if (show xm_Imp g Γ 31 (xi_if (fun x => x = 0) 39 34) from xs_if_eq hΓ dX1_gate_31 (by decide)) (fun c => ?_) (fun c => ?_)
      · rw [if_pos c] at e
        refine xw_psh (v := (.int (1))) (show xm_Imp g Γ 39 (xi_psh (.int (1)) 40) from xs_iconst hΓ dX1_gate_39 (by decide)) ?_
        refine xw_goto (show xm_Imp g Γ 40 (xi_goto 44) from xs_goto hΓ dX1_gate_40 (by decide)) ?_
        exact hB_44 _ _ _ _ _ _ _ _ e
      · rw [if_neg c] at e
        refine xw_ild (show xm_Imp g Γ 34 (xi_ild 2 35) from xs_iload_n hΓ dX1_gate_34) rfl ?_
        refine xw_ild (show xm_Imp g Γ 35 (xi_ild 3 36) from xs_iload_n hΓ dX1_gate_35) rfl ?_
        refine xw_ic (show xm_Imp g Γ 36 (xi_ic (fun x y => x = y) 43 39) from xs_icmp_eq hΓ dX1_gate_36 (by decide)) (fun c => ?_) (fun c => ?_)
        · rw [if_pos c] at e
          refine xw_psh (v := (.int (0))) (show xm_Imp g Γ 43 (xi_psh (.int (0)) 44) from xs_iconst hΓ dX1_gate_43 (by decide)) ?_
          exact hB_44 _ _ _ _ _ _ _ _ e
        · rw [if_neg c] at e
          refine xw_psh (v := (.int (1))) (show xm_Imp g Γ 39 (xi_psh (.int (1)) 40) from xs_iconst hΓ dX1_gate_39 (by decide)) ?_
          refine xw_goto (show xm_Imp g Γ 40 (xi_goto 44) from xs_goto hΓ dX1_gate_40 (by decide)) ?_
          exact hB_44 _ _ _ _ _ _ _ _ e
  unfold F_X1_gate at e
  refine xw_ald (show xm_Imp g Γ 0 (xi_ald 0 1) from xs_aload_n hΓ dX1_gate_0) rfl ?_
  refine xw_ild (show xm_Imp g Γ 1 (xi_ild 2 2) from xs_iload_n hΓ dX1_gate_1) rfl ?_
  obtain ⟨_, e0, e⟩ := e
  obtain ⟨m1, m2, ⟨em1, em2⟩, e⟩ := e
  refine xw_tXvu1 (o := (some p0)) (show xm_Imp g Γ 2 (xi_virX g 0 M_X1_checkQubit 9 1 5 X) from xs_invVX hG hΓ k_X1_checkQubit rfl rfl (ci := 0) rfl q1863 q1865 qs37 dX1_gate_2) rfl rfl e0 em1 em2 (K_X1_checkQubit hG p0 p2 _ _ _ e) (fun h3 e => ?_)
  refine xw_ild (show xm_Imp g Γ 5 (xi_ild 1 6) from xs_iload_n hΓ dX1_gate_5) rfl ?_
  refine xw_sv1 (show xm_Imp g Γ 6 (xi_inv g M_X1_isDouble 2 1 9) from xs_invS hG hΓ k_X1_isDouble rfl q1867 q1090 dX1_gate_6) rfl (fun Q X hQ => K_X1_isDouble hG p1 rfl hQ) ?_
  refine xw_if (show xm_Imp g Γ 9 (xi_if (fun x => x = 0) 17 12) from xs_if_eq hΓ dX1_gate_9 (by decide)) (fun c => ?_) (fun c => ?_)
  · rw [if_pos c] at e
    exact hB_17 _ _ _ _ _ _ _ e
  · rw [if_neg c] at e
    refine xw_ald (show xm_Imp g Γ 12 (xi_ald 0 13) from xs_aload_n hΓ dX1_gate_12) rfl ?_
    refine xw_ild (show xm_Imp g Γ 13 (xi_ild 3 14) from xs_iload_n hΓ dX1_gate_13) rfl ?_
    obtain ⟨_, e0, e⟩ := e
    obtain ⟨m27, m28, ⟨em1, em2⟩, e⟩ := e
    refine xw_tXvu1 (o := (some p0)) (show xm_Imp g Γ 14 (xi_virX g 0 M_X1_checkQubit 9 1 17 X) from xs_invVX hG hΓ k_X1_checkQubit rfl rfl (ci := 0) rfl q1863 q1865 qs37 dX1_gate_14) rfl rfl e0 em1 em2 (K_X1_checkQubit hG p0 p3 _ _ _ e) (fun h29 e => ?_)
    exact hB_17 _ _ _ _ _ _ _ e
noncomputable def B_X1_checkMasks_24 (g : xm_G) (s0 : Int32) (h : xm_H) (bc : Nat) (bs : Nat) (Q : xm_H → Prop) (X : xm_X) : Prop :=
 xt_c bc bs (fun m1 m2 => F_X1_checkArgument g s0 h m1 m2 (fun h3 =>
 Q h3) X)
noncomputable def B_X1_checkMasks_23 (g : xm_G) (h : xm_H) (bc : Nat) (bs : Nat) (Q : xm_H → Prop) (X : xm_X) : Prop :=
 B_X1_checkMasks_24 g 0 h bc bs Q X
noncomputable def F_X1_checkMasks (g : xm_G) (p0 : Nat) (p1 : Int32) (p2 : Int32) (h : xm_H) (bc : Nat) (bs : Nat) (Q : xm_H → Prop) (X : xm_X) : Prop :=
 (if p1 < 0 then
 B_X1_checkMasks_23 g h bc bs Q X else
 (if p2 < 0 then
 B_X1_checkMasks_23 g h bc bs Q X else
 xt_b (xh_is 0 h p0) (fun _ =>
 xt_b (F_X1_qubits g p0 h) (fun v5 =>
 B_X1_checkMasks_24 g (if ((p1 ||| p2) >>> (v5 &&& 31)) = 0 then 1 else 0) h bc bs Q X))))
set_option maxHeartbeats 4000000 in
theorem K_X1_checkMasks {g : xm_G} (hG : xm_Gw g) (p0 : Nat) (p1 : Int32) (p2 : Int32) (h : xm_H) (bc : Nat) (bs : Nat) {Q : xm_H → Prop} {X : xm_X} (e : F_X1_checkMasks g p0 p1 p2 h bc bs Q X) : xm_Run g M_X1_checkMasks 9 [.ref p0, .int p1, .int p2] h bc bs (fun v h' => v = none ∧ Q h') X := by
  refine xm_Run.of pn_StringTableau (Nat.le_of_ble_eq_true rfl) (fun Γ hΓ => ?_)
  show xm_W g Γ 0 [some (.ref p0), some (.int p1), some (.int p2)] [] h bc bs
  have hB_24 : ∀ (s0 : Int32) (h : xm_H) (bc : Nat) (bs : Nat), B_X1_checkMasks_24 g s0 h bc bs Q X → xm_W g Γ 24 [none, none, none] [.int s0] h bc bs := by
    intro s0 h bc bs e
    unfold B_X1_checkMasks_24 at e
    obtain ⟨m1, m2, ⟨em1, em2⟩, e⟩ := e
    refine xw_tXsu1 (show xm_Imp g Γ 24 (xi_invX g M_X1_checkArgument 8 1 27 X) from xs_invSX hG hΓ k_X1_checkArgument rfl rfl q1868 q1869 dX1_checkMasks_24) rfl em1 em2 (K_X1_checkArgument hG s0 _ _ _ e) (fun h3 e => ?_)
    exact xw_vret (show xm_Imp g Γ 27 (xi_vret _) from xs_return hΓ rfl dX1_checkMasks_27) ⟨rfl, e⟩
  have hB_23 : ∀ (h : xm_H) (bc : Nat) (bs : Nat), B_X1_checkMasks_23 g h bc bs Q X → xm_W g Γ 23 [none, none, none] [] h bc bs := by
    intro h bc bs e
    unfold B_X1_checkMasks_23 at e
    refine xw_psh (v := (.int (0))) (show xm_Imp g Γ 23 (xi_psh (.int (0)) 24) from xs_iconst hΓ dX1_checkMasks_23 (by decide)) ?_
    exact hB_24 _ _ _ _ e
  unfold F_X1_checkMasks at e
  refine xw_ild (show xm_Imp g Γ 0 (xi_ild 1 1) from xs_iload_n hΓ dX1_checkMasks_0) rfl ?_
  refine xw_if (show xm_Imp g Γ 1 (xi_if (fun x => x < 0) 23 4) from xs_if_lt hΓ dX1_checkMasks_1 (by decide)) (fun c => ?_) (fun c => ?_)
  · rw [if_pos c] at e
    exact xm_lx (hB_23 _ _ _ e) (trivial)
  · rw [if_neg c] at e
    refine xw_ild (show xm_Imp g Γ 4 (xi_ild 2 5) from xs_iload_n hΓ dX1_checkMasks_4) rfl ?_
    refine xw_if (show xm_Imp g Γ 5 (xi_if (fun x => x < 0) 23 8) from xs_if_lt hΓ dX1_checkMasks_5 (by decide)) (fun c => ?_) (fun c => ?_)
    · rw [if_pos c] at e
      exact xm_lx (hB_23 _ _ _ e) (trivial)
    · rw [if_neg c] at e
      refine xw_ild (show xm_Imp g Γ 8 (xi_ild 1 9) from xs_iload_n hΓ dX1_checkMasks_8) rfl ?_
      refine xw_ild (show xm_Imp g Γ 9 (xi_ild 2 10) from xs_iload_n hΓ dX1_checkMasks_9) rfl ?_
      refine xw_ii (show xm_Imp g Γ 10 (xi_ii (fun x y => x ||| y) 11) from xs_ior hΓ dX1_checkMasks_10) ?_
      refine xw_ald (show xm_Imp g Γ 11 (xi_ald 0 12) from xs_aload_n hΓ dX1_checkMasks_11) rfl ?_
      obtain ⟨_, e0, e⟩ := e
      obtain ⟨v5, e1, e⟩ := e
      refine xw_hv0 (o := (some p0)) (show xm_Imp g Γ 12 (xi_vir g 0 M_X1_qubits 1 0 15) from xs_invV hG hΓ k_X1_qubits rfl (ci := 0) rfl q1139 q1141 qs20 dX1_checkMasks_12) rfl rfl e0 (fun Q X hQ => K_X1_qubits hG p0 _ e1 hQ) ?_
      refine xw_ii (show xm_Imp g Γ 15 (xi_ii (fun x y => x >>> (y &&& 31)) 16) from xs_ishr hΓ dX1_checkMasks_15) ?_
      refine xw_if (show xm_Imp g Γ 16 (xi_if (fun x => x = 0) 19 23) from xs_if_ne hΓ dX1_checkMasks_16 (by decide)) (fun c => ?_) (fun c => ?_)
      · rw [if_pos c] at e
        refine xw_psh (v := (.int (1))) (show xm_Imp g Γ 19 (xi_psh (.int (1)) 20) from xs_iconst hΓ dX1_checkMasks_19 (by decide)) ?_
        refine xw_goto (show xm_Imp g Γ 20 (xi_goto 24) from xs_goto hΓ dX1_checkMasks_20 (by decide)) ?_
        exact xm_lx (hB_24 _ _ _ _ e) (trivial)
      · rw [if_neg c] at e
        refine xw_psh (v := (.int (0))) (show xm_Imp g Γ 23 (xi_psh (.int (0)) 24) from xs_iconst hΓ dX1_checkMasks_23 (by decide)) ?_
        exact xm_lx (hB_24 _ _ _ _ e) (trivial)
noncomputable def F_X1_checkState (g : xm_G) (p0 : Int32) (h : xm_H) (bc : Nat) (bs : Nat) (Q : xm_H → Prop) (X : xm_X) : Prop :=
 (if p0 = 0 then
 (1 ≤ bc ∧ 6 ≤ bs) ∧ ∀ q : Nat, X "java/lang/IllegalStateException" q h else
 Q h)
set_option maxHeartbeats 4000000 in
theorem K_X1_checkState {g : xm_G} (hG : xm_Gw g) (p0 : Int32) (h : xm_H) (bc : Nat) (bs : Nat) {Q : xm_H → Prop} {X : xm_X} (e : F_X1_checkState g p0 h bc bs Q X) : xm_Run g M_X1_checkState 8 [.int p0] h bc bs (fun v h' => v = none ∧ Q h') X := by
  refine xm_Run.of pn_StringTableau (Nat.le_of_ble_eq_true rfl) (fun Γ hΓ => ?_)
  show xm_W g Γ 0 [some (.int p0)] [] h bc bs
  unfold F_X1_checkState at e
  refine xw_ild (show xm_Imp g Γ 0 (xi_ild 0 1) from xs_iload_n hΓ dX1_checkState_0) rfl ?_
  refine xw_if (show xm_Imp g Γ 1 (xi_if (fun x => x = 0) 4 12) from xs_if_ne hΓ dX1_checkState_1 (by decide)) (fun c => ?_) (fun c => ?_)
  · rw [if_pos c] at e
    exact xw_thr0 (show xm_Imp g Γ 4 (xi_thr0 "java/lang/IllegalStateException" X) from xs_thr0 hG hΓ (names := ["java/lang/RuntimeException", "java/lang/Exception"]) rfl rfl (by decide +kernel) (by decide +kernel) (by decide) q1894 q154 q1276 (xm_bl_of xm_at3) q577 q579 (lw_all_tbl q140) xm_s4 xm_s5 dX1_checkState_4 dX1_checkState_7 dX1_checkState_8 dX1_checkState_11) rfl e
  · rw [if_neg c] at e
    exact xw_vret (show xm_Imp g Γ 12 (xi_vret _) from xs_return hΓ rfl dX1_checkState_12) ⟨rfl, e⟩
noncomputable def B_X1_measure_27 (g : xm_G) (l0 : Nat) (l1 : Int32) (l2 : Int32) (l3 : Int32) (l4 : Int32) (s0 : Int32) (h : xm_H) (bc : Nat) (bs : Nat) (Q : Int32 → xm_H → Prop) (X : xm_X) : Prop :=
 xt_c bc bs (fun m5 m6 => F_X1_checkArgument g s0 h m5 m6 (fun h7 =>
 xt_new h7 (bc - m5) (bs - m6) 3 (.inr (3, [.int 0, .int 0, .int 0])) (fun a9 h10 b11 b12 =>
 xt_b (F_X4_init g a9 l1 l2 l3 h10) (fun v13 =>
 xt_b (xh_fr [(0, 0)] v13 l0) (fun v14 =>
 xt_b v14 (fun a15 =>
 xt_b (xh_is 1 v13 a15) (fun _ =>
 xt_c b11 b12 (fun m16 m17 => F_X2_canMeasure g a15 (some a9) l4 v13 m16 m17 (fun v19 h18 =>
 xt_c (b11 - m16) (b12 - m17) (fun m20 m21 => F_X1_checkState g v19 h18 m20 m21 (fun h22 =>
 xt_b (xh_is 0 h22 l0) (fun _ =>
 xt_c ((b11 - m16) - m20) ((b12 - m17) - m21) (fun m24 m25 => F_X1_remember g l0 h22 m24 m25 (fun h26 =>
 xt_b (xh_fr [(0, 0)] h26 l0) (fun v28 =>
 xt_b v28 (fun a29 =>
 xt_b (xh_is 1 h26 a29) (fun _ =>
 xt_c (((b11 - m16) - m20) - m24) (((b12 - m17) - m21) - m25) (fun m30 m31 => F_X2_measure g a29 (some a9) l4 h26 m30 m31 (fun v33 h32 =>
 Q v33 h32))))))))) X))))))))) X)
noncomputable def F_X1_measure (g : xm_G) (p0 : Nat) (p1 : Int32) (p2 : Int32) (p3 : Int32) (p4 : Int32) (h : xm_H) (bc : Nat) (bs : Nat) (Q : Int32 → xm_H → Prop) (X : xm_X) : Prop :=
 xt_b (xh_is 0 h p0) (fun _ =>
 xt_c bc bs (fun m1 m2 => F_X1_checkMasks g p0 p1 p2 h m1 m2 (fun h3 =>
 B_X1_measure_27 g p0 p1 p2 p3 p4 (if (p1 ||| p2) = 0 then 0 else (if (F_X1_inRange p4 (-1) 1) = 0 then 0 else 1)) h3 (bc - m1) (bs - m2) Q X) X))
set_option maxHeartbeats 4000000 in
theorem K_X1_measure {g : xm_G} (hG : xm_Gw g) (p0 : Nat) (p1 : Int32) (p2 : Int32) (p3 : Int32) (p4 : Int32) (h : xm_H) (bc : Nat) (bs : Nat) {Q : Int32 → xm_H → Prop} {X : xm_X} (e : F_X1_measure g p0 p1 p2 p3 p4 h bc bs Q X) : xm_Run g M_X1_measure 13 [.ref p0, .int p1, .int p2, .int p3, .int p4] h bc bs (fun v h' => ∃ r, v = some (.int r) ∧ Q r h') X := by
  refine xm_Run.of pn_StringTableau (Nat.le_of_ble_eq_true rfl) (fun Γ hΓ => ?_)
  show xm_W g Γ 0 [some (.ref p0), some (.int p1), some (.int p2), some (.int p3), some (.int p4), none] [] h bc bs
  have hB_27 : ∀ (l0 : Nat) (l1 : Int32) (l2 : Int32) (l3 : Int32) (l4 : Int32) (s0 : Int32) (h : xm_H) (bc : Nat) (bs : Nat), B_X1_measure_27 g l0 l1 l2 l3 l4 s0 h bc bs Q X → xm_W g Γ 27 [some (.ref l0), some (.int l1), some (.int l2), some (.int l3), some (.int l4), none] [.int s0] h bc bs := by
    intro l0 l1 l2 l3 l4 s0 h bc bs e
    unfold B_X1_measure_27 at e
    obtain ⟨m5, m6, ⟨em1, em2⟩, e⟩ := e
    refine xw_tXsu1 (show xm_Imp g Γ 27 (xi_invX g M_X1_checkArgument 8 1 30 X) from xs_invSX hG hΓ k_X1_checkArgument rfl rfl q1868 q1869 dX1_measure_27) rfl em1 em2 (K_X1_checkArgument hG s0 _ _ _ e) (fun h7 e => ?_)
    refine xw_new (show xm_Imp g Γ 30 (xi_new 3 3 [.int 0, .int 0, .int 0] 33) from xs_new hG hΓ (ci := 3) rfl q1658 q241 q127 rfl tyX4 tyX4_ok (xm_df 3 (by decide +kernel)) dX1_measure_30) e (fun a9 h10 b11 b12 e => ?_)
    refine xw_dup (show xm_Imp g Γ 33 (xi_dup 34) from xs_dup hΓ dX1_measure_33) rfl ?_
    refine xw_ild (show xm_Imp g Γ 34 (xi_ild 1 35) from xs_iload_n hΓ dX1_measure_34) rfl ?_
    refine xw_ild (show xm_Imp g Γ 35 (xi_ild 2 36) from xs_iload_n hΓ dX1_measure_35) rfl ?_
    refine xw_ild (show xm_Imp g Γ 36 (xi_ild 3 37) from xs_iload_n hΓ dX1_measure_36) rfl ?_
    obtain ⟨v13, e1, e⟩ := e
    refine xw_pu3 (o := (some a9)) (show xm_Imp g Γ 37 (xi_spe g M_X4_init 2 3 40) from xs_invI hG hΓ k_X4_init rfl q1889 q243 rfl dX1_measure_37) rfl rfl (fun Q X hQ => K_X4_init hG a9 l1 l2 l3 _ e1 hQ) ?_
    refine xw_ast (ls' := [some (.ref l0), some (.int l1), some (.int l2), some (.int l3), some (.int l4), some (.ref a9)]) (show xm_Imp g Γ 40 (xi_ast 5 42) from xs_astore hΓ dX1_measure_40 (Nat.le_of_ble_eq_true rfl)) rfl ?_
    refine xw_ald (show xm_Imp g Γ 42 (xi_ald 0 43) from xs_aload_n hΓ dX1_measure_42) rfl ?_
    obtain ⟨v14, e1, e⟩ := e
    refine xw_gr1 (o := (some l0)) (show xm_Imp g Γ 43 (xi_get 0 0 46) from xs_get hG hΓ (ci := 0) (kf := 0) rfl (Nat.le_of_ble_eq_true rfl) q343 dX1_measure_43) rfl e1 ?_
    refine xw_ald (show xm_Imp g Γ 46 (xi_ald 5 48) from xs_aload hΓ dX1_measure_46) rfl ?_
    refine xw_ild (show xm_Imp g Γ 48 (xi_ild 4 50) from xs_iload hΓ dX1_measure_48) rfl ?_
    obtain ⟨a15, ha15, e⟩ := e
    obtain ⟨_, e0, e⟩ := e
    obtain ⟨m16, m17, ⟨em1, em2⟩, e⟩ := e
    refine xw_tvi2 (o := v14) (show xm_Imp g Γ 50 (xi_vir g 1 M_X2_canMeasure 8 2 53) from xs_invV hG hΓ k_X2_canMeasure rfl (ci := 1) rfl q1890 q1191 q1192 dX1_measure_50) (by simp [xm_stk, xv_cat, xc_int, xc_long, xc_float, xc_double, xc_ref]) ha15 e0 em1 em2 (K_X2_canMeasure hG a15 (some a9) l4 _ _ _ e) (fun v19 h18 e => ?_)
    obtain ⟨m20, m21, ⟨em1, em2⟩, e⟩ := e
    refine xw_tXsu1 (show xm_Imp g Γ 53 (xi_invX g M_X1_checkState 8 1 56 X) from xs_invSX hG hΓ k_X1_checkState rfl rfl q1891 q1892 dX1_measure_53) rfl em1 em2 (K_X1_checkState hG v19 _ _ _ e) (fun h22 e => ?_)
    refine xw_ald (show xm_Imp g Γ 56 (xi_ald 0 57) from xs_aload_n hΓ dX1_measure_56) rfl ?_
    obtain ⟨_, e0, e⟩ := e
    obtain ⟨m24, m25, ⟨em1, em2⟩, e⟩ := e
    refine xw_tvu0 (o := (some l0)) (show xm_Imp g Γ 57 (xi_vir g 0 M_X1_remember 12 0 60) from xs_invV hG hΓ k_X1_remember rfl (ci := 0) rfl q1243 q1245 qs23 dX1_measure_57) rfl rfl e0 em1 em2 (K_X1_remember hG l0 _ _ _ e) (fun h26 e => ?_)
    refine xw_ald (show xm_Imp g Γ 60 (xi_ald 0 61) from xs_aload_n hΓ dX1_measure_60) rfl ?_
    obtain ⟨v28, e1, e⟩ := e
    refine xw_gr1 (o := (some l0)) (show xm_Imp g Γ 61 (xi_get 0 0 64) from xs_get hG hΓ (ci := 0) (kf := 0) rfl (Nat.le_of_ble_eq_true rfl) q343 dX1_measure_61) rfl e1 ?_
    refine xw_ald (show xm_Imp g Γ 64 (xi_ald 5 66) from xs_aload hΓ dX1_measure_64) rfl ?_
    refine xw_ild (show xm_Imp g Γ 66 (xi_ild 4 68) from xs_iload hΓ dX1_measure_66) rfl ?_
    obtain ⟨a29, ha29, e⟩ := e
    obtain ⟨_, e0, e⟩ := e
    obtain ⟨m30, m31, ⟨em1, em2⟩, e⟩ := e
    refine xw_tvi2 (o := v28) (show xm_Imp g Γ 68 (xi_vir g 1 M_X2_measure 12 2 71) from xs_invV hG hΓ k_X2_measure rfl (ci := 1) rfl q1899 q1555 q1556 dX1_measure_68) (by simp [xm_stk, xv_cat, xc_int, xc_long, xc_float, xc_double, xc_ref]) ha29 e0 em1 em2 (K_X2_measure hG a29 (some a9) l4 _ _ _ e) (fun v33 h32 e => ?_)
    exact xw_iret (show xm_Imp g Γ 71 (xi_iret .int _) from xs_ireturn hΓ rfl dX1_measure_71) (xn_int _) ⟨_, rfl, e⟩
  unfold F_X1_measure at e
  refine xw_ald (show xm_Imp g Γ 0 (xi_ald 0 1) from xs_aload_n hΓ dX1_measure_0) rfl ?_
  refine xw_ild (show xm_Imp g Γ 1 (xi_ild 1 2) from xs_iload_n hΓ dX1_measure_1) rfl ?_
  refine xw_ild (show xm_Imp g Γ 2 (xi_ild 2 3) from xs_iload_n hΓ dX1_measure_2) rfl ?_
  obtain ⟨_, e0, e⟩ := e
  obtain ⟨m1, m2, ⟨em1, em2⟩, e⟩ := e
  refine xw_tXvu2 (o := (some p0)) (show xm_Imp g Γ 3 (xi_virX g 0 M_X1_checkMasks 9 2 6 X) from xs_invVX hG hΓ k_X1_checkMasks rfl rfl (ci := 0) rfl q1885 q1887 qs38 dX1_measure_3) rfl rfl e0 em1 em2 (K_X1_checkMasks hG p0 p1 p2 _ _ _ e) (fun h3 e => ?_)
  refine xw_ild (show xm_Imp g Γ 6 (xi_ild 1 7) from xs_iload_n hΓ dX1_measure_6) rfl ?_
  refine xw_ild (show xm_Imp g Γ 7 (xi_ild 2 8) from xs_iload_n hΓ dX1_measure_7) rfl ?_
  refine xw_ii (show xm_Imp g Γ 8 (xi_ii (fun x y => x ||| y) 9) from xs_ior hΓ dX1_measure_8) ?_
  refine xw_if (show xm_Imp g Γ 9 (xi_if (fun x => x = 0) 26 12) from xs_if_eq hΓ dX1_measure_9 (by decide)) (fun c => ?_) (fun c => ?_)
  · rw [if_pos c] at e
    refine xw_psh (v := (.int (0))) (show xm_Imp g Γ 26 (xi_psh (.int (0)) 27) from xs_iconst hΓ dX1_measure_26 (by decide)) ?_
    exact hB_27 _ _ _ _ _ _ _ _ _ e
  · rw [if_neg c] at e
    refine xw_ild (show xm_Imp g Γ 12 (xi_ild 4 14) from xs_iload hΓ dX1_measure_12) rfl ?_
    refine xw_psh (v := (.int (-1))) (show xm_Imp g Γ 14 (xi_psh (.int (-1)) 15) from xs_iconst hΓ dX1_measure_14 (by decide)) ?_
    refine xw_psh (v := (.int (1))) (show xm_Imp g Γ 15 (xi_psh (.int (1)) 16) from xs_iconst hΓ dX1_measure_15 (by decide)) ?_
    refine xw_sv3 (show xm_Imp g Γ 16 (xi_inv g M_X1_inRange 1 3 19) from xs_invS hG hΓ k_X1_inRange rfl q387 q388 dX1_measure_16) rfl (fun Q X hQ => K_X1_inRange hG p4 (-1) 1 rfl hQ) ?_
    refine xw_if (show xm_Imp g Γ 19 (xi_if (fun x => x = 0) 26 22) from xs_if_eq hΓ dX1_measure_19 (by decide)) (fun c => ?_) (fun c => ?_)
    · rw [if_pos c] at e
      refine xw_psh (v := (.int (0))) (show xm_Imp g Γ 26 (xi_psh (.int (0)) 27) from xs_iconst hΓ dX1_measure_26 (by decide)) ?_
      exact hB_27 _ _ _ _ _ _ _ _ _ e
    · rw [if_neg c] at e
      refine xw_psh (v := (.int (1))) (show xm_Imp g Γ 22 (xi_psh (.int (1)) 23) from xs_iconst hΓ dX1_measure_22 (by decide)) ?_
      refine xw_goto (show xm_Imp g Γ 23 (xi_goto 27) from xs_goto hΓ dX1_measure_23 (by decide)) ?_
      exact hB_27 _ _ _ _ _ _ _ _ _ e
noncomputable def B_X1_measureAll_76 (g : xm_G) (l0 : Nat) (l1 : Int32) (l2 : Int32) (h : xm_H) (bc : Nat) (bs : Nat) (k38 : Int32 × Int32 × xm_H × Nat × Nat → Prop) (Q : Int32 → xm_H → Prop) (X : xm_X) : Prop :=
 k38 (l1, (l2 + 1), h, bc, bs)
noncomputable def D_X1_measureAll_38 (g : xm_G) (l0 : Nat) (Q : Int32 → xm_H → Prop) (X : xm_X) (k38 : Int32 × Int32 × xm_H × Nat × Nat → Prop) (s : Int32 × Int32 × xm_H × Nat × Nat) : Prop :=
 xt_b (xh_is 0 s.2.2.1 l0) (fun _ =>
 xt_b (F_X1_qubits g l0 s.2.2.1) (fun v15 =>
 (if v15 ≤ s.2.1 then
 Q s.1 s.2.2.1 else
 xt_b (xh_fr [(0, 0)] s.2.2.1 l0) (fun v16 =>
 xt_new s.2.2.1 s.2.2.2.1 s.2.2.2.2 3 (.inr (3, [.int 0, .int 0, .int 0])) (fun a17 h18 b19 b20 =>
 xt_b (F_X4_init g a17 0 (1 <<< (s.2.1 &&& 31)) 0 h18) (fun v21 =>
 xt_b v16 (fun a22 =>
 xt_b (xh_is 1 v21 a22) (fun _ =>
 xt_c b19 b20 (fun m23 m24 => F_X2_measure g a22 (some a17) 0 v21 m23 m24 (fun v26 h25 =>
 B_X1_measureAll_76 g l0 (if v26 = ((-1) : Int32) then s.1 ||| (1 <<< (s.2.1 &&& 31)) else s.1) s.2.1 h25 (b19 - m23) (b20 - m24) k38 Q X))))))))))
noncomputable def L_X1_measureAll_38 (g : xm_G) (l0 : Nat) (Q : Int32 → xm_H → Prop) (X : xm_X) (s : Int32 × Int32 × xm_H × Nat × Nat) : Prop := xt_loop (D_X1_measureAll_38 g l0 Q X) s
noncomputable def B_X1_measureAll_27 (g : xm_G) (l0 : Nat) (s0 : Int32) (h : xm_H) (bc : Nat) (bs : Nat) (Q : Int32 → xm_H → Prop) (X : xm_X) : Prop :=
 xt_c bc bs (fun m7 m8 => F_X1_checkState g s0 h m7 m8 (fun h9 =>
 xt_b (xh_is 0 h9 l0) (fun _ =>
 xt_c (bc - m7) (bs - m8) (fun m11 m12 => F_X1_remember g l0 h9 m11 m12 (fun h13 =>
 L_X1_measureAll_38 g l0 Q X (0, 0, h13, ((bc - m7) - m11), ((bs - m8) - m12)))))) X)
noncomputable def F_X1_measureAll (g : xm_G) (p0 : Nat) (h : xm_H) (bc : Nat) (bs : Nat) (Q : Int32 → xm_H → Prop) (X : xm_X) : Prop :=
 xt_b (xh_fr [(0, 0)] h p0) (fun v1 =>
 xt_b v1 (fun a2 =>
 xt_b (xh_fr [(1, 1)] h a2) (fun v3 =>
 xt_b v3 (fun a4 =>
 xt_b (xh_is 12 h a4) (fun _ =>
 xt_b (F_J2_size g a4 h) (fun v5 =>
 xt_b (xh_is 0 h p0) (fun _ =>
 xt_b (F_X1_qubits g p0 h) (fun v6 =>
 B_X1_measureAll_27 g p0 (if (100 : Int32) < (v5 + v6) then 0 else 1) h bc bs Q X))))))))
set_option maxHeartbeats 4000000 in
theorem K_X1_measureAll {g : xm_G} (hG : xm_Gw g) (p0 : Nat) (h : xm_H) (bc : Nat) (bs : Nat) {Q : Int32 → xm_H → Prop} {X : xm_X} (e : F_X1_measureAll g p0 h bc bs Q X) : xm_Run g M_X1_measureAll 13 [.ref p0] h bc bs (fun v h' => ∃ r, v = some (.int r) ∧ Q r h') X := by
  refine xm_Run.of pn_StringTableau (Nat.le_of_ble_eq_true rfl) (fun Γ hΓ => ?_)
  show xm_W g Γ 0 [some (.ref p0), none, none] [] h bc bs
  have hL_38 : ∀ (l0 : Nat) (s : Int32 × Int32 × xm_H × Nat × Nat), L_X1_measureAll_38 g l0 Q X s → xm_W g Γ 38 [some (.ref l0), some (.int s.1), some (.int s.2.1)] [] s.2.2.1 s.2.2.2.1 s.2.2.2.2 := by
    intro l0
    refine xt_rule (WS := fun s : Int32 × Int32 × xm_H × Nat × Nat => xm_W g Γ 38 [some (.ref l0), some (.int s.1), some (.int s.2.1)] [] s.2.2.1 s.2.2.2.1 s.2.2.2.2) ?_
    intro k38 hk38 s e
    have hB_76 : ∀ (l1 : Int32) (l2 : Int32) (h : xm_H) (bc : Nat) (bs : Nat), B_X1_measureAll_76 g l0 l1 l2 h bc bs k38 Q X → xm_W g Γ 76 [some (.ref l0), some (.int l1), some (.int l2)] [] h bc bs := by
      intro l1 l2 h bc bs e
      unfold B_X1_measureAll_76 at e
      refine xw_inc (v := (1)) (ls' := [some (.ref l0), some (.int l1), some (.int (l2 + 1))]) (show xm_Imp g Γ 76 (xi_inc 2 (1) 79) from xs_iinc hΓ dX1_measureAll_76 (by decide) (Nat.le_of_ble_eq_true rfl)) rfl rfl ?_
      refine xw_goto (show xm_Imp g Γ 79 (xi_goto 38) from xs_goto hΓ dX1_measureAll_79 (by decide)) ?_
      have hq := hk38 _ e; exact hq
    unfold D_X1_measureAll_38 at e
    refine xw_ild (show xm_Imp g Γ 38 (xi_ild 2 39) from xs_iload_n hΓ dX1_measureAll_38) rfl ?_
    refine xw_ald (show xm_Imp g Γ 39 (xi_ald 0 40) from xs_aload_n hΓ dX1_measureAll_39) rfl ?_
    obtain ⟨_, e0, e⟩ := e
    obtain ⟨v15, e1, e⟩ := e
    refine xw_hv0 (o := (some l0)) (show xm_Imp g Γ 40 (xi_vir g 0 M_X1_qubits 1 0 43) from xs_invV hG hΓ k_X1_qubits rfl (ci := 0) rfl q1139 q1141 qs20 dX1_measureAll_40) rfl rfl e0 (fun Q X hQ => K_X1_qubits hG l0 _ e1 hQ) ?_
    refine xw_ic (show xm_Imp g Γ 43 (xi_ic (fun x y => y ≤ x) 82 46) from xs_icmp_ge hΓ dX1_measureAll_43 (by decide)) (fun c => ?_) (fun c => ?_)
    · rw [if_pos c] at e
      refine xw_ild (show xm_Imp g Γ 82 (xi_ild 1 83) from xs_iload_n hΓ dX1_measureAll_82) rfl ?_
      exact xw_iret (show xm_Imp g Γ 83 (xi_iret .int _) from xs_ireturn hΓ rfl dX1_measureAll_83) (xn_int _) ⟨_, rfl, e⟩
    · rw [if_neg c] at e
      refine xw_ald (show xm_Imp g Γ 46 (xi_ald 0 47) from xs_aload_n hΓ dX1_measureAll_46) rfl ?_
      obtain ⟨v16, e1, e⟩ := e
      refine xw_gr1 (o := (some l0)) (show xm_Imp g Γ 47 (xi_get 0 0 50) from xs_get hG hΓ (ci := 0) (kf := 0) rfl (Nat.le_of_ble_eq_true rfl) q343 dX1_measureAll_47) rfl e1 ?_
      refine xw_new (show xm_Imp g Γ 50 (xi_new 3 3 [.int 0, .int 0, .int 0] 53) from xs_new hG hΓ (ci := 3) rfl q1658 q241 q127 rfl tyX4 tyX4_ok (xm_df 3 (by decide +kernel)) dX1_measureAll_50) e (fun a17 h18 b19 b20 e => ?_)
      refine xw_dup (show xm_Imp g Γ 53 (xi_dup 54) from xs_dup hΓ dX1_measureAll_53) rfl ?_
      refine xw_psh (v := (.int (0))) (show xm_Imp g Γ 54 (xi_psh (.int (0)) 55) from xs_iconst hΓ dX1_measureAll_54 (by decide)) ?_
      refine xw_psh (v := (.int (1))) (show xm_Imp g Γ 55 (xi_psh (.int (1)) 56) from xs_iconst hΓ dX1_measureAll_55 (by decide)) ?_
      refine xw_ild (show xm_Imp g Γ 56 (xi_ild 2 57) from xs_iload_n hΓ dX1_measureAll_56) rfl ?_
      refine xw_ii (show xm_Imp g Γ 57 (xi_ii (fun x y => x <<< (y &&& 31)) 58) from xs_ishl hΓ dX1_measureAll_57) ?_
      refine xw_psh (v := (.int (0))) (show xm_Imp g Γ 58 (xi_psh (.int (0)) 59) from xs_iconst hΓ dX1_measureAll_58 (by decide)) ?_
      obtain ⟨v21, e1, e⟩ := e
      refine xw_pu3 (o := (some a17)) (show xm_Imp g Γ 59 (xi_spe g M_X4_init 2 3 62) from xs_invI hG hΓ k_X4_init rfl q1889 q243 rfl dX1_measureAll_59) (by simp [xm_stk, xv_cat, xc_int, xc_long, xc_float, xc_double, xc_ref]) rfl (fun Q X hQ => K_X4_init hG a17 0 (1 <<< (s.2.1 &&& 31)) 0 _ e1 hQ) ?_
      refine xw_psh (v := (.int (0))) (show xm_Imp g Γ 62 (xi_psh (.int (0)) 63) from xs_iconst hΓ dX1_measureAll_62 (by decide)) ?_
      obtain ⟨a22, ha22, e⟩ := e
      obtain ⟨_, e0, e⟩ := e
      obtain ⟨m23, m24, ⟨em1, em2⟩, e⟩ := e
      refine xw_tvi2 (o := v16) (show xm_Imp g Γ 63 (xi_vir g 1 M_X2_measure 12 2 66) from xs_invV hG hΓ k_X2_measure rfl (ci := 1) rfl q1899 q1555 q1556 dX1_measureAll_63) (by simp [xm_stk, xv_cat, xc_int, xc_long, xc_float, xc_double, xc_ref]) ha22 e0 em1 em2 (K_X2_measure hG a22 (some a17) 0 _ _ _ e) (fun v26 h25 e => ?_)
      refine xw_psh (v := (.int (-1))) (show xm_Imp g Γ 66 (xi_psh (.int (-1)) 67) from xs_iconst hΓ dX1_measureAll_66 (by decide)) ?_
      refine xw_ic (show xm_Imp g Γ 67 (xi_ic (fun x y => x = y) 70 76) from xs_icmp_ne hΓ dX1_measureAll_67 (by decide)) (fun c => ?_) (fun c => ?_)
      · rw [if_pos c] at e
        refine xw_ild (show xm_Imp g Γ 70 (xi_ild 1 71) from xs_iload_n hΓ dX1_measureAll_70) rfl ?_
        refine xw_psh (v := (.int (1))) (show xm_Imp g Γ 71 (xi_psh (.int (1)) 72) from xs_iconst hΓ dX1_measureAll_71 (by decide)) ?_
        refine xw_ild (show xm_Imp g Γ 72 (xi_ild 2 73) from xs_iload_n hΓ dX1_measureAll_72) rfl ?_
        refine xw_ii (show xm_Imp g Γ 73 (xi_ii (fun x y => x <<< (y &&& 31)) 74) from xs_ishl hΓ dX1_measureAll_73) ?_
        refine xw_ii (show xm_Imp g Γ 74 (xi_ii (fun x y => x ||| y) 75) from xs_ior hΓ dX1_measureAll_74) ?_
        refine xw_ist (ls' := [some (.ref l0), some (.int (s.1 ||| (1 <<< (s.2.1 &&& 31)))), some (.int s.2.1)]) (show xm_Imp g Γ 75 (xi_ist 1 76) from xs_istore_n hΓ dX1_measureAll_75 (Nat.le_of_ble_eq_true rfl)) rfl ?_
        exact hB_76 _ _ _ _ _ e
      · rw [if_neg c] at e
        exact hB_76 _ _ _ _ _ e
  have hB_27 : ∀ (l0 : Nat) (s0 : Int32) (h : xm_H) (bc : Nat) (bs : Nat), B_X1_measureAll_27 g l0 s0 h bc bs Q X → xm_W g Γ 27 [some (.ref l0), none, none] [.int s0] h bc bs := by
    intro l0 s0 h bc bs e
    unfold B_X1_measureAll_27 at e
    obtain ⟨m7, m8, ⟨em1, em2⟩, e⟩ := e
    refine xw_tXsu1 (show xm_Imp g Γ 27 (xi_invX g M_X1_checkState 8 1 30 X) from xs_invSX hG hΓ k_X1_checkState rfl rfl q1891 q1892 dX1_measureAll_27) rfl em1 em2 (K_X1_checkState hG s0 _ _ _ e) (fun h9 e => ?_)
    refine xw_ald (show xm_Imp g Γ 30 (xi_ald 0 31) from xs_aload_n hΓ dX1_measureAll_30) rfl ?_
    obtain ⟨_, e0, e⟩ := e
    obtain ⟨m11, m12, ⟨em1, em2⟩, e⟩ := e
    refine xw_tvu0 (o := (some l0)) (show xm_Imp g Γ 31 (xi_vir g 0 M_X1_remember 12 0 34) from xs_invV hG hΓ k_X1_remember rfl (ci := 0) rfl q1243 q1245 qs23 dX1_measureAll_31) rfl rfl e0 em1 em2 (K_X1_remember hG l0 _ _ _ e) (fun h13 e => ?_)
    refine xw_psh (v := (.int (0))) (show xm_Imp g Γ 34 (xi_psh (.int (0)) 35) from xs_iconst hΓ dX1_measureAll_34 (by decide)) ?_
    refine xw_ist (ls' := [some (.ref l0), some (.int 0), none]) (show xm_Imp g Γ 35 (xi_ist 1 36) from xs_istore_n hΓ dX1_measureAll_35 (Nat.le_of_ble_eq_true rfl)) rfl ?_
    refine xw_psh (v := (.int (0))) (show xm_Imp g Γ 36 (xi_psh (.int (0)) 37) from xs_iconst hΓ dX1_measureAll_36 (by decide)) ?_
    refine xw_ist (ls' := [some (.ref l0), some (.int 0), some (.int 0)]) (show xm_Imp g Γ 37 (xi_ist 2 38) from xs_istore_n hΓ dX1_measureAll_37 (Nat.le_of_ble_eq_true rfl)) rfl ?_
    exact hL_38 _ _ e
  unfold F_X1_measureAll at e
  refine xw_ald (show xm_Imp g Γ 0 (xi_ald 0 1) from xs_aload_n hΓ dX1_measureAll_0) rfl ?_
  obtain ⟨v1, e1, e⟩ := e
  refine xw_gr1 (o := (some p0)) (show xm_Imp g Γ 1 (xi_get 0 0 4) from xs_get hG hΓ (ci := 0) (kf := 0) rfl (Nat.le_of_ble_eq_true rfl) q343 dX1_measureAll_1) rfl e1 ?_
  obtain ⟨a2, ha2, e⟩ := e
  obtain ⟨v3, e1, e⟩ := e
  refine xw_gr1 (o := v1) (show xm_Imp g Γ 4 (xi_get 1 1 7) from xs_getN hG hΓ (ci := 1) (kf := 1) rfl (Nat.le_of_ble_eq_true rfl) q278 dX1_measureAll_4) ha2 e1 ?_
  obtain ⟨a4, ha4, e⟩ := e
  obtain ⟨_, e0, e⟩ := e
  obtain ⟨v5, e1, e⟩ := e
  refine xw_hv0 (o := v3) (show xm_Imp g Γ 7 (xi_vir g 12 M_J2_size 1 0 12) from xs_invF hG hΓ k_J2_size rfl (ci := 12) rfl q1126 q906 q904 ⟨by decide, by decide⟩ (by decide +kernel) q902 q901 q907 q905 q903 dX1_measureAll_7) (by simp [xm_stk, xv_cat, xc_int, xc_long, xc_float, xc_double, xc_ref]) ha4 e0 (fun Q X hQ => K_J2_size hG a4 _ e1 hQ) ?_
  refine xw_ald (show xm_Imp g Γ 12 (xi_ald 0 13) from xs_aload_n hΓ dX1_measureAll_12) rfl ?_
  obtain ⟨_, e0, e⟩ := e
  obtain ⟨v6, e1, e⟩ := e
  refine xw_hv0 (o := (some p0)) (show xm_Imp g Γ 13 (xi_vir g 0 M_X1_qubits 1 0 16) from xs_invV hG hΓ k_X1_qubits rfl (ci := 0) rfl q1139 q1141 qs20 dX1_measureAll_13) rfl rfl e0 (fun Q X hQ => K_X1_qubits hG p0 _ e1 hQ) ?_
  refine xw_ii (show xm_Imp g Γ 16 (xi_ii (fun x y => x + y) 17) from xs_iadd hΓ dX1_measureAll_16) ?_
  refine xw_psh (v := (.int (100))) (show xm_Imp g Γ 17 (xi_psh (.int (100)) 19) from xs_bipush hΓ dX1_measureAll_17 (by decide)) ?_
  refine xw_ic (show xm_Imp g Γ 19 (xi_ic (fun x y => y < x) 26 22) from xs_icmp_gt hΓ dX1_measureAll_19 (by decide)) (fun c => ?_) (fun c => ?_)
  · rw [if_pos c] at e
    refine xw_psh (v := (.int (0))) (show xm_Imp g Γ 26 (xi_psh (.int (0)) 27) from xs_iconst hΓ dX1_measureAll_26 (by decide)) ?_
    exact hB_27 _ _ _ _ _ e
  · rw [if_neg c] at e
    refine xw_psh (v := (.int (1))) (show xm_Imp g Γ 22 (xi_psh (.int (1)) 23) from xs_iconst hΓ dX1_measureAll_22 (by decide)) ?_
    refine xw_goto (show xm_Imp g Γ 23 (xi_goto 27) from xs_goto hΓ dX1_measureAll_23 (by decide)) ?_
    exact hB_27 _ _ _ _ _ e
noncomputable def D_X1_run_25 (g : xm_G) (l0 : Nat) (l1 : Int32) (Q : Int32 → xm_H → Prop) (X : xm_X) (k25 : Int32 × xm_H × Nat × Nat → Prop) (s : Int32 × xm_H × Nat × Nat) : Prop :=
 (if l1 ≤ s.1 then
 Q s.1 s.2.1 else
 xt_b (xh_is 0 s.2.1 l0) (fun _ =>
 xt_c s.2.2.1 s.2.2.2 (fun m13 m14 => F_X1_canStep g l0 s.2.1 m13 m14 (fun v16 h15 =>
 (if v16 = 0 then
 Q s.1 h15 else
 xt_b (xh_is 0 h15 l0) (fun _ =>
 xt_c (s.2.2.1 - m13) (s.2.2.2 - m14) (fun m17 m18 => F_X1_executeNext g l0 h15 m17 m18 (fun v20 h19 =>
 k25 ((s.1 + 1), h19, ((s.2.2.1 - m13) - m17), ((s.2.2.2 - m14) - m18))))))))))
noncomputable def L_X1_run_25 (g : xm_G) (l0 : Nat) (l1 : Int32) (Q : Int32 → xm_H → Prop) (X : xm_X) (s : Int32 × xm_H × Nat × Nat) : Prop := xt_loop (D_X1_run_25 g l0 l1 Q X) s
noncomputable def F_X1_run (g : xm_G) (p0 : Nat) (p1 : Int32) (h : xm_H) (bc : Nat) (bs : Nat) (Q : Int32 → xm_H → Prop) (X : xm_X) : Prop :=
 xt_c bc bs (fun m1 m2 => F_X1_checkArgument g (F_X1_inRange p1 1 60) h m1 m2 (fun h3 =>
 xt_b (xh_is 0 h3 p0) (fun _ =>
 xt_c (bc - m1) (bs - m2) (fun m5 m6 => F_X1_canStep g p0 h3 m5 m6 (fun v8 h7 =>
 (if v8 = 0 then
 Q 0 h7 else
 xt_b (xh_is 0 h7 p0) (fun _ =>
 xt_c ((bc - m1) - m5) ((bs - m2) - m6) (fun m9 m10 => F_X1_remember g p0 h7 m9 m10 (fun h11 =>
 L_X1_run_25 g p0 p1 Q X (0, h11, (((bc - m1) - m5) - m9), (((bs - m2) - m6) - m10)))))))))) X)
set_option maxHeartbeats 4000000 in
theorem K_X1_run {g : xm_G} (hG : xm_Gw g) (p0 : Nat) (p1 : Int32) (h : xm_H) (bc : Nat) (bs : Nat) {Q : Int32 → xm_H → Prop} {X : xm_X} (e : F_X1_run g p0 p1 h bc bs Q X) : xm_Run g M_X1_run 15 [.ref p0, .int p1] h bc bs (fun v h' => ∃ r, v = some (.int r) ∧ Q r h') X := by
  refine xm_Run.of pn_StringTableau (Nat.le_of_ble_eq_true rfl) (fun Γ hΓ => ?_)
  show xm_W g Γ 0 [some (.ref p0), some (.int p1), none] [] h bc bs
  have hL_25 : ∀ (l0 : Nat) (l1 : Int32) (s : Int32 × xm_H × Nat × Nat), L_X1_run_25 g l0 l1 Q X s → xm_W g Γ 25 [some (.ref l0), some (.int l1), some (.int s.1)] [] s.2.1 s.2.2.1 s.2.2.2 := by
    intro l0 l1
    refine xt_rule (WS := fun s : Int32 × xm_H × Nat × Nat => xm_W g Γ 25 [some (.ref l0), some (.int l1), some (.int s.1)] [] s.2.1 s.2.2.1 s.2.2.2) ?_
    intro k25 hk25 s e
    unfold D_X1_run_25 at e
    refine xw_ild (show xm_Imp g Γ 25 (xi_ild 2 26) from xs_iload_n hΓ dX1_run_25) rfl ?_
    refine xw_ild (show xm_Imp g Γ 26 (xi_ild 1 27) from xs_iload_n hΓ dX1_run_26) rfl ?_
    refine xw_ic (show xm_Imp g Γ 27 (xi_ic (fun x y => y ≤ x) 48 30) from xs_icmp_ge hΓ dX1_run_27 (by decide)) (fun c => ?_) (fun c => ?_)
    · rw [if_pos c] at e
      refine xw_ild (show xm_Imp g Γ 48 (xi_ild 2 49) from xs_iload_n hΓ dX1_run_48) rfl ?_
      exact xw_iret (show xm_Imp g Γ 49 (xi_iret .int _) from xs_ireturn hΓ rfl dX1_run_49) (xn_int _) ⟨_, rfl, e⟩
    · rw [if_neg c] at e
      refine xw_ald (show xm_Imp g Γ 30 (xi_ald 0 31) from xs_aload_n hΓ dX1_run_30) rfl ?_
      obtain ⟨_, e0, e⟩ := e
      obtain ⟨m13, m14, ⟨em1, em2⟩, e⟩ := e
      refine xw_tvi0 (o := (some l0)) (show xm_Imp g Γ 31 (xi_vir g 0 M_X1_canStep 11 0 34) from xs_invV hG hΓ k_X1_canStep rfl (ci := 0) rfl q1176 q1178 qs22 dX1_run_31) rfl rfl e0 em1 em2 (K_X1_canStep hG l0 _ _ _ e) (fun v16 h15 e => ?_)
      refine xw_if (show xm_Imp g Γ 34 (xi_if (fun x => x = 0) 48 37) from xs_if_eq hΓ dX1_run_34 (by decide)) (fun c => ?_) (fun c => ?_)
      · rw [if_pos c] at e
        refine xw_ild (show xm_Imp g Γ 48 (xi_ild 2 49) from xs_iload_n hΓ dX1_run_48) rfl ?_
        exact xw_iret (show xm_Imp g Γ 49 (xi_iret .int _) from xs_ireturn hΓ rfl dX1_run_49) (xn_int _) ⟨_, rfl, e⟩
      · rw [if_neg c] at e
        refine xw_ald (show xm_Imp g Γ 37 (xi_ald 0 38) from xs_aload_n hΓ dX1_run_37) rfl ?_
        obtain ⟨_, e0, e⟩ := e
        obtain ⟨m17, m18, ⟨em1, em2⟩, e⟩ := e
        refine xw_tvi0 (o := (some l0)) (show xm_Imp g Γ 38 (xi_vir g 0 M_X1_executeNext 14 0 41) from xs_invV hG hΓ k_X1_executeNext rfl (ci := 0) rfl q1458 q1460 qs27 dX1_run_38) rfl rfl e0 em1 em2 (K_X1_executeNext hG l0 _ _ _ e) (fun v20 h19 e => ?_)
        refine xw_pop (show xm_Imp g Γ 41 (xi_pop 42) from xs_pop hΓ dX1_run_41) rfl ?_
        refine xw_inc (v := (1)) (ls' := [some (.ref l0), some (.int l1), some (.int (s.1 + 1))]) (show xm_Imp g Γ 42 (xi_inc 2 (1) 45) from xs_iinc hΓ dX1_run_42 (by decide) (Nat.le_of_ble_eq_true rfl)) rfl rfl ?_
        refine xw_goto (show xm_Imp g Γ 45 (xi_goto 25) from xs_goto hΓ dX1_run_45 (by decide)) ?_
        have hq := hk25 _ e; exact hq
  unfold F_X1_run at e
  refine xw_ild (show xm_Imp g Γ 0 (xi_ild 1 1) from xs_iload_n hΓ dX1_run_0) rfl ?_
  refine xw_psh (v := (.int (1))) (show xm_Imp g Γ 1 (xi_psh (.int (1)) 2) from xs_iconst hΓ dX1_run_1 (by decide)) ?_
  refine xw_psh (v := (.int (60))) (show xm_Imp g Γ 2 (xi_psh (.int (60)) 4) from xs_bipush hΓ dX1_run_2 (by decide)) ?_
  refine xw_sv3 (show xm_Imp g Γ 4 (xi_inv g M_X1_inRange 1 3 7) from xs_invS hG hΓ k_X1_inRange rfl q387 q388 dX1_run_4) rfl (fun Q X hQ => K_X1_inRange hG p1 1 60 rfl hQ) ?_
  obtain ⟨m1, m2, ⟨em1, em2⟩, e⟩ := e
  refine xw_tXsu1 (show xm_Imp g Γ 7 (xi_invX g M_X1_checkArgument 8 1 10 X) from xs_invSX hG hΓ k_X1_checkArgument rfl rfl q1868 q1869 dX1_run_7) rfl em1 em2 (K_X1_checkArgument hG (F_X1_inRange p1 1 60) _ _ _ e) (fun h3 e => ?_)
  refine xw_ald (show xm_Imp g Γ 10 (xi_ald 0 11) from xs_aload_n hΓ dX1_run_10) rfl ?_
  obtain ⟨_, e0, e⟩ := e
  obtain ⟨m5, m6, ⟨em1, em2⟩, e⟩ := e
  refine xw_tvi0 (o := (some p0)) (show xm_Imp g Γ 11 (xi_vir g 0 M_X1_canStep 11 0 14) from xs_invV hG hΓ k_X1_canStep rfl (ci := 0) rfl q1176 q1178 qs22 dX1_run_11) rfl rfl e0 em1 em2 (K_X1_canStep hG p0 _ _ _ e) (fun v8 h7 e => ?_)
  refine xw_if (show xm_Imp g Γ 14 (xi_if (fun x => x = 0) 17 19) from xs_if_ne hΓ dX1_run_14 (by decide)) (fun c => ?_) (fun c => ?_)
  · rw [if_pos c] at e
    refine xw_psh (v := (.int (0))) (show xm_Imp g Γ 17 (xi_psh (.int (0)) 18) from xs_iconst hΓ dX1_run_17 (by decide)) ?_
    exact xw_iret (show xm_Imp g Γ 18 (xi_iret .int _) from xs_ireturn hΓ rfl dX1_run_18) (xn_int _) ⟨_, rfl, e⟩
  · rw [if_neg c] at e
    refine xw_ald (show xm_Imp g Γ 19 (xi_ald 0 20) from xs_aload_n hΓ dX1_run_19) rfl ?_
    obtain ⟨_, e0, e⟩ := e
    obtain ⟨m9, m10, ⟨em1, em2⟩, e⟩ := e
    refine xw_tvu0 (o := (some p0)) (show xm_Imp g Γ 20 (xi_vir g 0 M_X1_remember 12 0 23) from xs_invV hG hΓ k_X1_remember rfl (ci := 0) rfl q1243 q1245 qs23 dX1_run_20) rfl rfl e0 em1 em2 (K_X1_remember hG p0 _ _ _ e) (fun h11 e => ?_)
    refine xw_psh (v := (.int (0))) (show xm_Imp g Γ 23 (xi_psh (.int (0)) 24) from xs_iconst hΓ dX1_run_23 (by decide)) ?_
    refine xw_ist (ls' := [some (.ref p0), some (.int p1), some (.int 0)]) (show xm_Imp g Γ 24 (xi_ist 2 25) from xs_istore_n hΓ dX1_run_24 (Nat.le_of_ble_eq_true rfl)) rfl ?_
    exact hL_25 _ _ _ e
def F_J3_dec (p0 : Int32) (p1 : Int32) : Int32 :=
 (if 0 ≤ (p0 + (-1)) then
 p0 + (-1) else
 p1 - 1)
set_option maxHeartbeats 4000000 in
theorem K_J3_dec {g : xm_G} (hG : xm_Gw g) {h : xm_H} (p0 : Int32) (p1 : Int32) {o : Int32} (e : F_J3_dec p0 p1 = o) {Q : xm_P} {X : xm_X} (hQ : Q (some (.int o)) h) : xm_Run g M_J3_dec 1 [.int p0, .int p1] h 0 0 Q X := by
  refine xm_Run.of pn_java_util_ArrayDeque (Nat.le_of_ble_eq_true rfl) (fun Γ hΓ => ?_)
  obtain ⟨P0, hP0, hp⟩ : ∃ P : Int32 → Prop, (∀ o, P o → Q (some (.int o)) h) ∧ P o := ⟨fun o => Q (some (.int o)) h, fun _ h => h, hQ⟩
  clear hQ
  show xm_W g Γ 0 [some (.int p0), some (.int p1)] [] h 0 0
  unfold F_J3_dec at e
  refine xw_inc (v := (-1)) (ls' := [some (.int (p0 + (-1))), some (.int p1)]) (show xm_Imp g Γ 0 (xi_inc 0 (-1) 3) from xs_iinc hΓ dJ3_dec_0 (by decide) (Nat.le_of_ble_eq_true rfl)) rfl rfl ?_
  refine xw_ild (show xm_Imp g Γ 3 (xi_ild 0 4) from xs_iload_n hΓ dJ3_dec_3) rfl ?_
  refine xw_if (show xm_Imp g Γ 4 (xi_if (fun x => 0 ≤ x) 11 7) from xs_if_ge hΓ dJ3_dec_4 (by decide)) (fun c => ?_) (fun c => ?_)
  · rw [if_pos c] at e
    refine xw_ild (show xm_Imp g Γ 11 (xi_ild 0 12) from xs_iload_n hΓ dJ3_dec_11) rfl ?_
    exact xw_iret (show xm_Imp g Γ 12 (xi_iret .int _) from xs_ireturn hΓ rfl dJ3_dec_12) (xn_int _) (hP0 _ (xl_finV e hp))
  · rw [if_neg c] at e
    refine xw_ild (show xm_Imp g Γ 7 (xi_ild 1 8) from xs_iload_n hΓ dJ3_dec_7) rfl ?_
    refine xw_psh (v := (.int (1))) (show xm_Imp g Γ 8 (xi_psh (.int (1)) 9) from xs_iconst hΓ dJ3_dec_8 (by decide)) ?_
    refine xw_ii (show xm_Imp g Γ 9 (xi_ii (fun x y => x - y) 10) from xs_isub hΓ dJ3_dec_9) ?_
    refine xw_ist (ls' := [some (.int (p1 - 1)), some (.int p1)]) (show xm_Imp g Γ 10 (xi_ist 0 11) from xs_istore_n hΓ dJ3_dec_10 (Nat.le_of_ble_eq_true rfl)) rfl ?_
    refine xw_ild (show xm_Imp g Γ 11 (xi_ild 0 12) from xs_iload_n hΓ dJ3_dec_11) rfl ?_
    exact xw_iret (show xm_Imp g Γ 12 (xi_iret .int _) from xs_ireturn hΓ rfl dJ3_dec_12) (xn_int _) (hP0 _ (xl_finV e hp))
noncomputable def F_J3_pollLast (g : xm_G) (p0 : Nat) (h : xm_H) : Option (Option Nat × xm_H) :=
 xo_b (xh_fr [(13, 0)] h p0) (fun v1 =>
 xo_b (xh_fi [(13, 2)] h p0) (fun v2 =>
 xo_b v1 (fun a3 =>
 xo_b (xh_len h a3) (fun v4 =>
 xo_b (F_J3_elementAt g v1 (F_J3_dec v2 v4) h) (fun v5 =>
 (if v5 = none then
 some (v5, h) else
 xo_b (xh_w [(13, 2)] h p0 (.int (F_J3_dec v2 v4))) (fun h6 =>
 xo_b (xh_sr "java/lang/Object" h6 a3 (F_J3_dec v2 v4) none) (fun h7 =>
 some (v5, h7)))))))))
set_option maxHeartbeats 4000000 in
theorem K_J3_pollLast {g : xm_G} (hG : xm_Gw g) (p0 : Nat) (h : xm_H) {o : Option Nat × xm_H} (e : F_J3_pollLast g p0 h = some o) {Q : xm_P} {X : xm_X} (hQ : Q (some (va_rf o.1)) o.2) : xm_Run g M_J3_pollLast 2 [.ref p0] h 0 0 Q X := by
  refine xm_Run.of pn_java_util_ArrayDeque (Nat.le_of_ble_eq_true rfl) (fun Γ hΓ => ?_)
  obtain ⟨P0, hP0, hp⟩ : ∃ P : Option Nat × xm_H → Prop, (∀ o, P o → Q (some (va_rf o.1)) o.2) ∧ P o := ⟨fun o => Q (some (va_rf o.1)) o.2, fun _ h => h, hQ⟩
  clear hQ
  show xm_W g Γ 0 [some (.ref p0), none, none, none] [] h 0 0
  unfold F_J3_pollLast at e
  refine xw_ald (show xm_Imp g Γ 0 (xi_ald 0 1) from xs_aload_n hΓ dJ3_pollLast_0) rfl ?_
  obtain ⟨v1, e1, e⟩ := xo_b_s e
  refine xw_gr1 (o := (some p0)) (show xm_Imp g Γ 1 (xi_get 13 0 4) from xs_get hG hΓ (ci := 13) (kf := 0) rfl (Nat.le_of_ble_eq_true rfl) q221 dJ3_pollLast_1) rfl e1 ?_
  refine xw_dup (show xm_Imp g Γ 4 (xi_dup 5) from xs_dup hΓ dJ3_pollLast_4) (xm_c1_rf v1) ?_
  refine xw_asto (x := v1) (ls' := [some (.ref p0), some (va_rf v1), none, none]) (show xm_Imp g Γ 5 (xi_ast 1 6) from xs_astore_n hΓ dJ3_pollLast_5 (Nat.le_of_ble_eq_true rfl)) rfl ?_
  refine xw_ald (show xm_Imp g Γ 6 (xi_ald 0 7) from xs_aload_n hΓ dJ3_pollLast_6) rfl ?_
  obtain ⟨v2, e1, e⟩ := xo_b_s e
  refine xw_gi1 (o := (some p0)) (show xm_Imp g Γ 7 (xi_get 13 2 10) from xs_get hG hΓ (ci := 13) (kf := 2) rfl (Nat.le_of_ble_eq_true rfl) q225 dJ3_pollLast_7) rfl e1 ?_
  refine xw_aldo (x := v1) (show xm_Imp g Γ 10 (xi_ald 1 11) from xs_aload_n hΓ dJ3_pollLast_10) rfl ?_
  obtain ⟨a3, ha3, e⟩ := xo_b_s e
  obtain ⟨v4, e1, e⟩ := xo_b_s e
  refine xw_hlen (o := v1) (show xm_Imp g Γ 11 (xi_len 12) from xs_len hG hΓ dJ3_pollLast_11) ha3 e1 ?_
  refine xw_sv2 (show xm_Imp g Γ 12 (xi_inv g M_J3_dec 1 2 15) from xs_invS hG hΓ k_J3_dec rfl q1929 q1930 dJ3_pollLast_12) (by simp [xm_stk, xv_cat, xc_int, xc_long, xc_float, xc_double, xc_ref]) (fun Q X hQ => K_J3_dec hG v2 v4 rfl hQ) ?_
  refine xw_dup (show xm_Imp g Γ 15 (xi_dup 16) from xs_dup hΓ dJ3_pollLast_15) rfl ?_
  refine xw_ist (ls' := [some (.ref p0), some (va_rf v1), some (.int (F_J3_dec v2 v4)), none]) (show xm_Imp g Γ 16 (xi_ist 2 17) from xs_istore_n hΓ dJ3_pollLast_16 (Nat.le_of_ble_eq_true rfl)) ((xm_s1_o (o := v1) rfl).trans rfl) ?_
  obtain ⟨v5, e1, e⟩ := xo_b_s e
  refine xw_sv2 (show xm_Imp g Γ 17 (xi_inv g M_J3_elementAt 1 2 20) from xs_invS hG hΓ k_J3_elementAt rfl q1255 q1256 dJ3_pollLast_17) rfl (fun Q X hQ => K_J3_elementAt hG v1 (F_J3_dec v2 v4) _ e1 hQ) ?_
  refine xw_asto (x := v5) (ls' := [some (.ref p0), some (va_rf v1), some (.int (F_J3_dec v2 v4)), some (va_rf v5)]) (show xm_Imp g Γ 20 (xi_ast 3 21) from xs_astore_n hΓ dJ3_pollLast_20 (Nat.le_of_ble_eq_true rfl)) rfl ?_
  refine xw_aldo (x := v5) (show xm_Imp g Γ 21 (xi_ald 3 22) from xs_aload_n hΓ dJ3_pollLast_21) rfl ?_
  refine xw_nul (o := v5) (show xm_Imp g Γ 22 (xi_nul 34 25) from xs_ifnull hΓ dJ3_pollLast_22 (by decide)) (fun c => ?_) (fun c => ?_)
  · rw [if_pos c] at e
    refine xw_aldo (x := v5) (show xm_Imp g Γ 34 (xi_ald 3 35) from xs_aload_n hΓ dJ3_pollLast_34) rfl ?_
    have hq := hP0 _ (xl_fin e hp)
    exact xw_areto (show xm_Imp g Γ 35 (xi_aret _) from xs_areturn hΓ rfl (Or.inl ⟨_, rfl⟩) dJ3_pollLast_35) hq
  · rw [if_neg c] at e
    refine xw_aldo (x := v1) (show xm_Imp g Γ 25 (xi_ald 1 26) from xs_aload_n hΓ dJ3_pollLast_25) rfl ?_
    refine xw_ald (show xm_Imp g Γ 26 (xi_ald 0 27) from xs_aload_n hΓ dJ3_pollLast_26) rfl ?_
    refine xw_ild (show xm_Imp g Γ 27 (xi_ild 2 28) from xs_iload_n hΓ dJ3_pollLast_27) rfl ?_
    refine xw_dup_x1 (show xm_Imp g Γ 28 (xi_dup_x1 29) from xs_dup_x1 hΓ dJ3_pollLast_28) ⟨rfl, rfl⟩ ?_
    obtain ⟨h6, e1, e⟩ := xo_b_s e
    refine xw_pt1 (o := (some p0)) (show xm_Imp g Γ 29 (xi_put 13 2 (.int) 32) from xs_put hG hΓ (ci := 13) (kf := 2) rfl (Nat.le_of_ble_eq_true rfl) rfl (by decide +kernel) q225 dJ3_pollLast_29) rfl (xf_int _) e1 ?_
    refine xw_psh (v := .null) (show xm_Imp g Γ 32 (xi_psh .null 33) from xs_null hΓ dJ3_pollLast_32) ?_
    obtain ⟨h7, e1, e⟩ := xo_b_s e
    refine xw_haas (o := v1) (v := none) (show xm_Imp g Γ 33 (xi_aas "java/lang/Object" 34) from xs_aas hG hΓ dJ3_pollLast_33) ha3 e1 ?_
    refine xw_aldo (x := v5) (show xm_Imp g Γ 34 (xi_ald 3 35) from xs_aload_n hΓ dJ3_pollLast_34) rfl ?_
    have hq := hP0 _ (xl_fin e hp)
    exact xw_areto (show xm_Imp g Γ 35 (xi_aret _) from xs_areturn hΓ rfl (Or.inl ⟨_, rfl⟩) dJ3_pollLast_35) hq
noncomputable def F_J3_removeLast (g : xm_G) (p0 : Nat) (h : xm_H) : Option (Option Nat × xm_H) :=
 xo_b (xh_is 13 h p0) (fun _ =>
 xo_b (F_J3_pollLast g p0 h) (fun v1 =>
 (if v1.1 = none then
 none else
 some (v1.1, v1.2))))
set_option maxHeartbeats 4000000 in
theorem K_J3_removeLast {g : xm_G} (hG : xm_Gw g) (p0 : Nat) (h : xm_H) {o : Option Nat × xm_H} (e : F_J3_removeLast g p0 h = some o) {Q : xm_P} {X : xm_X} (hQ : Q (some (va_rf o.1)) o.2) : xm_Run g M_J3_removeLast 8 [.ref p0] h 0 0 Q X := by
  refine xm_Run.of pn_java_util_ArrayDeque (Nat.le_of_ble_eq_true rfl) (fun Γ hΓ => ?_)
  obtain ⟨P0, hP0, hp⟩ : ∃ P : Option Nat × xm_H → Prop, (∀ o, P o → Q (some (va_rf o.1)) o.2) ∧ P o := ⟨fun o => Q (some (va_rf o.1)) o.2, fun _ h => h, hQ⟩
  clear hQ
  show xm_W g Γ 0 [some (.ref p0), none] [] h 0 0
  unfold F_J3_removeLast at e
  refine xw_ald (show xm_Imp g Γ 0 (xi_ald 0 1) from xs_aload_n hΓ dJ3_removeLast_0) rfl ?_
  obtain ⟨_, e0, e⟩ := xo_b_s e
  obtain ⟨v1, e1, e⟩ := xo_b_s e
  refine xw_hv0 (o := (some p0)) (show xm_Imp g Γ 1 (xi_vir g 13 M_J3_pollLast 2 0 4) from xs_invV hG hΓ k_J3_pollLast rfl (ci := 13) rfl q1925 q1926 q1927 dJ3_removeLast_1) rfl rfl e0 (fun Q X hQ => K_J3_pollLast hG p0 _ e1 hQ) ?_
  refine xw_asto (x := v1.1) (ls' := [some (.ref p0), some (va_rf v1.1)]) (show xm_Imp g Γ 4 (xi_ast 1 5) from xs_astore_n hΓ dJ3_removeLast_4 (Nat.le_of_ble_eq_true rfl)) rfl ?_
  refine xw_aldo (x := v1.1) (show xm_Imp g Γ 5 (xi_ald 1 6) from xs_aload_n hΓ dJ3_removeLast_5) rfl ?_
  refine xw_nul (o := v1.1) (show xm_Imp g Γ 6 (xi_nul 9 17) from xs_ifnonnull hΓ dJ3_removeLast_6 (by decide)) (fun c => ?_) (fun c => ?_)
  · rw [if_pos c] at e
    cases e
  · rw [if_neg c] at e
    refine xw_aldo (x := v1.1) (show xm_Imp g Γ 17 (xi_ald 1 18) from xs_aload_n hΓ dJ3_removeLast_17) rfl ?_
    have hq := hP0 _ (xl_fin e hp)
    exact xw_areto (show xm_Imp g Γ 18 (xi_aret _) from xs_areturn hΓ rfl (Or.inl ⟨_, rfl⟩) dJ3_removeLast_18) hq
def F_X1_inverseOf (p0 : Int32) : Int32 :=
 (if p0 = 1 then
 2 else
 (if p0 = 2 then
 1 else
 p0))
set_option maxHeartbeats 4000000 in
theorem K_X1_inverseOf {g : xm_G} (hG : xm_Gw g) {h : xm_H} (p0 : Int32) {o : Int32} (e : F_X1_inverseOf p0 = o) {Q : xm_P} {X : xm_X} (hQ : Q (some (.int o)) h) : xm_Run g M_X1_inverseOf 1 [.int p0] h 0 0 Q X := by
  refine xm_Run.of pn_StringTableau (Nat.le_of_ble_eq_true rfl) (fun Γ hΓ => ?_)
  obtain ⟨P0, hP0, hp⟩ : ∃ P : Int32 → Prop, (∀ o, P o → Q (some (.int o)) h) ∧ P o := ⟨fun o => Q (some (.int o)) h, fun _ h => h, hQ⟩
  clear hQ
  show xm_W g Γ 0 [some (.int p0)] [] h 0 0
  unfold F_X1_inverseOf at e
  refine xw_ild (show xm_Imp g Γ 0 (xi_ild 0 1) from xs_iload_n hΓ dX1_inverseOf_0) rfl ?_
  refine xw_psh (v := (.int (1))) (show xm_Imp g Γ 1 (xi_psh (.int (1)) 2) from xs_iconst hΓ dX1_inverseOf_1 (by decide)) ?_
  refine xw_ic (show xm_Imp g Γ 2 (xi_ic (fun x y => x = y) 5 9) from xs_icmp_ne hΓ dX1_inverseOf_2 (by decide)) (fun c => ?_) (fun c => ?_)
  · rw [if_pos c] at e
    refine xw_psh (v := (.int (2))) (show xm_Imp g Γ 5 (xi_psh (.int (2)) 6) from xs_iconst hΓ dX1_inverseOf_5 (by decide)) ?_
    refine xw_goto (show xm_Imp g Γ 6 (xi_goto 19) from xs_goto hΓ dX1_inverseOf_6 (by decide)) ?_
    exact xw_iret (show xm_Imp g Γ 19 (xi_iret .int _) from xs_ireturn hΓ rfl dX1_inverseOf_19) (xn_int _) (hP0 _ (xl_finV e hp))
  · rw [if_neg c] at e
    refine xw_ild (show xm_Imp g Γ 9 (xi_ild 0 10) from xs_iload_n hΓ dX1_inverseOf_9) rfl ?_
    refine xw_psh (v := (.int (2))) (show xm_Imp g Γ 10 (xi_psh (.int (2)) 11) from xs_iconst hΓ dX1_inverseOf_10 (by decide)) ?_
    refine xw_ic (show xm_Imp g Γ 11 (xi_ic (fun x y => x = y) 14 18) from xs_icmp_ne hΓ dX1_inverseOf_11 (by decide)) (fun c => ?_) (fun c => ?_)
    · rw [if_pos c] at e
      refine xw_psh (v := (.int (1))) (show xm_Imp g Γ 14 (xi_psh (.int (1)) 15) from xs_iconst hΓ dX1_inverseOf_14 (by decide)) ?_
      refine xw_goto (show xm_Imp g Γ 15 (xi_goto 19) from xs_goto hΓ dX1_inverseOf_15 (by decide)) ?_
      exact xw_iret (show xm_Imp g Γ 19 (xi_iret .int _) from xs_ireturn hΓ rfl dX1_inverseOf_19) (xn_int _) (hP0 _ (xl_finV e hp))
    · rw [if_neg c] at e
      refine xw_ild (show xm_Imp g Γ 18 (xi_ild 0 19) from xs_iload_n hΓ dX1_inverseOf_18) rfl ?_
      exact xw_iret (show xm_Imp g Γ 19 (xi_iret .int _) from xs_ireturn hΓ rfl dX1_inverseOf_19) (xn_int _) (hP0 _ (xl_finV e hp))
noncomputable def D_X1_reverse_38 (g : xm_G) (l0 : Nat) (l1 : Int32) (Q : Int32 → xm_H → Prop) (X : xm_X) (k38 : Int32 × xm_H × Nat × Nat → Prop) (s : Int32 × xm_H × Nat × Nat) : Prop :=
 (if l1 ≤ s.1 then
 xt_b (xh_fr [(0, 0)] s.2.1 l0) (fun v18 =>
 xt_b v18 (fun a19 =>
 xt_b (xh_fr [(1, 2)] s.2.1 a19) (fun v20 =>
 xt_b v20 (fun a21 =>
 xt_b (xh_is 13 s.2.1 a21) (fun _ =>
 xt_b (F_J3_size g a21 s.2.1) (fun v22 =>
 Q v22 s.2.1)))))) else
 xt_b (xh_fr [(0, 0)] s.2.1 l0) (fun v23 =>
 xt_b v23 (fun a24 =>
 xt_b (xh_fr [(1, 2)] s.2.1 a24) (fun v25 =>
 xt_b v25 (fun a26 =>
 xt_b (xh_is 13 s.2.1 a26) (fun _ =>
 xt_b (F_J3_removeLast g a26 s.2.1) (fun v27 =>
 xt_b (xh_castA (.int) v27.2 v27.1) (fun _ =>
 xt_b (xh_fr [(0, 0)] v27.2 l0) (fun v28 =>
 xt_b v27.1 (fun a29 =>
 xt_b (xh_ai .int v27.2 a29 0) (fun v30 =>
 xt_b (xh_ai .int v27.2 a29 1) (fun v31 =>
 xt_b (xh_ai .int v27.2 a29 2) (fun v32 =>
 xt_b v28 (fun a33 =>
 xt_b (xh_is 1 v27.2 a33) (fun _ =>
 xt_b (F_X2_gate g a33 (F_X1_inverseOf v30) v31 v32 v27.2) (fun v34 =>
 k38 ((s.1 + 1), v34, s.2.2.1, s.2.2.2)))))))))))))))))
noncomputable def L_X1_reverse_38 (g : xm_G) (l0 : Nat) (l1 : Int32) (Q : Int32 → xm_H → Prop) (X : xm_X) (s : Int32 × xm_H × Nat × Nat) : Prop := xt_loop (D_X1_reverse_38 g l0 l1 Q X) s
noncomputable def B_X1_reverse_29 (g : xm_G) (l0 : Nat) (l1 : Int32) (s0 : Int32) (h : xm_H) (bc : Nat) (bs : Nat) (Q : Int32 → xm_H → Prop) (X : xm_X) : Prop :=
 xt_c bc bs (fun m10 m11 => F_X1_checkState g s0 h m10 m11 (fun h12 =>
 xt_b (xh_is 0 h12 l0) (fun _ =>
 xt_c (bc - m10) (bs - m11) (fun m14 m15 => F_X1_remember g l0 h12 m14 m15 (fun h16 =>
 L_X1_reverse_38 g l0 l1 Q X (0, h16, ((bc - m10) - m14), ((bs - m11) - m15)))))) X)
noncomputable def F_X1_reverse (g : xm_G) (p0 : Nat) (p1 : Int32) (h : xm_H) (bc : Nat) (bs : Nat) (Q : Int32 → xm_H → Prop) (X : xm_X) : Prop :=
 xt_c bc bs (fun m1 m2 => F_X1_checkArgument g (F_X1_inRange p1 1 80) h m1 m2 (fun h3 =>
 xt_b (xh_fr [(0, 0)] h3 p0) (fun v5 =>
 xt_b v5 (fun a6 =>
 xt_b (xh_fr [(1, 2)] h3 a6) (fun v7 =>
 xt_b v7 (fun a8 =>
 xt_b (xh_is 13 h3 a8) (fun _ =>
 xt_b (F_J3_size g a8 h3) (fun v9 =>
 B_X1_reverse_29 g p0 p1 (if v9 < p1 then 0 else 1) h3 (bc - m1) (bs - m2) Q X))))))) X)
set_option maxHeartbeats 4000000 in
theorem K_X1_reverse {g : xm_G} (hG : xm_Gw g) (p0 : Nat) (p1 : Int32) (h : xm_H) (bc : Nat) (bs : Nat) {Q : Int32 → xm_H → Prop} {X : xm_X} (e : F_X1_reverse g p0 p1 h bc bs Q X) : xm_Run g M_X1_reverse 13 [.ref p0, .int p1] h bc bs (fun v h' => ∃ r, v = some (.int r) ∧ Q r h') X := by
  refine xm_Run.of pn_StringTableau (Nat.le_of_ble_eq_true rfl) (fun Γ hΓ => ?_)
  show xm_W g Γ 0 [some (.ref p0), some (.int p1), none, none] [] h bc bs
  have hL_38 : ∀ (l0 : Nat) (l1 : Int32) (s : Int32 × xm_H × Nat × Nat), L_X1_reverse_38 g l0 l1 Q X s → xm_W g Γ 38 [some (.ref l0), some (.int l1), some (.int s.1), none] [] s.2.1 s.2.2.1 s.2.2.2 := by
    intro l0 l1
    refine xt_rule (WS := fun s : Int32 × xm_H × Nat × Nat => xm_W g Γ 38 [some (.ref l0), some (.int l1), some (.int s.1), none] [] s.2.1 s.2.2.1 s.2.2.2) ?_
    intro k38 hk38 s e
    unfold D_X1_reverse_38 at e
    refine xw_ild (show xm_Imp g Γ 38 (xi_ild 2 39) from xs_iload_n hΓ dX1_reverse_38) rfl ?_
    refine xw_ild (show xm_Imp g Γ 39 (xi_ild 1 40) from xs_iload_n hΓ dX1_reverse_39) rfl ?_
    refine xw_ic (show xm_Imp g Γ 40 (xi_ic (fun x y => y ≤ x) 82 43) from xs_icmp_ge hΓ dX1_reverse_40 (by decide)) (fun c => ?_) (fun c => ?_)
    · rw [if_pos c] at e
      refine xw_ald (show xm_Imp g Γ 82 (xi_ald 0 83) from xs_aload_n hΓ dX1_reverse_82) rfl ?_
      obtain ⟨v18, e1, e⟩ := e
      refine xw_gr1 (o := (some l0)) (show xm_Imp g Γ 83 (xi_get 0 0 86) from xs_get hG hΓ (ci := 0) (kf := 0) rfl (Nat.le_of_ble_eq_true rfl) q343 dX1_reverse_83) rfl e1 ?_
      obtain ⟨a19, ha19, e⟩ := e
      obtain ⟨v20, e1, e⟩ := e
      refine xw_gr1 (o := v18) (show xm_Imp g Γ 86 (xi_get 1 2 89) from xs_getN hG hΓ (ci := 1) (kf := 2) rfl (Nat.le_of_ble_eq_true rfl) q280 dX1_reverse_86) ha19 e1 ?_
      obtain ⟨a21, ha21, e⟩ := e
      obtain ⟨_, e0, e⟩ := e
      obtain ⟨v22, e1, e⟩ := e
      refine xw_hv0 (o := v20) (show xm_Imp g Γ 89 (xi_vir g 13 M_J3_size 2 0 92) from xs_invV hG hΓ k_J3_size rfl (ci := 13) rfl q1165 q1166 q1167 dX1_reverse_89) (by simp [xm_stk, xv_cat, xc_int, xc_long, xc_float, xc_double, xc_ref]) ha21 e0 (fun Q X hQ => K_J3_size hG a21 _ e1 hQ) ?_
      exact xw_iret (show xm_Imp g Γ 92 (xi_iret .int _) from xs_ireturn hΓ rfl dX1_reverse_92) (xn_int _) ⟨_, rfl, e⟩
    · rw [if_neg c] at e
      refine xw_ald (show xm_Imp g Γ 43 (xi_ald 0 44) from xs_aload_n hΓ dX1_reverse_43) rfl ?_
      obtain ⟨v23, e1, e⟩ := e
      refine xw_gr1 (o := (some l0)) (show xm_Imp g Γ 44 (xi_get 0 0 47) from xs_get hG hΓ (ci := 0) (kf := 0) rfl (Nat.le_of_ble_eq_true rfl) q343 dX1_reverse_44) rfl e1 ?_
      obtain ⟨a24, ha24, e⟩ := e
      obtain ⟨v25, e1, e⟩ := e
      refine xw_gr1 (o := v23) (show xm_Imp g Γ 47 (xi_get 1 2 50) from xs_getN hG hΓ (ci := 1) (kf := 2) rfl (Nat.le_of_ble_eq_true rfl) q280 dX1_reverse_47) ha24 e1 ?_
      obtain ⟨a26, ha26, e⟩ := e
      obtain ⟨_, e0, e⟩ := e
      obtain ⟨v27, e1, e⟩ := e
      refine xw_hv0 (o := v25) (show xm_Imp g Γ 50 (xi_vir g 13 M_J3_removeLast 8 0 53) from xs_invV hG hΓ k_J3_removeLast rfl (ci := 13) rfl q1921 q1922 q1923 dX1_reverse_50) (by simp [xm_stk, xv_cat, xc_int, xc_long, xc_float, xc_double, xc_ref]) ha26 e0 (fun Q X hQ => K_J3_removeLast hG a26 _ e1 hQ) ?_
      obtain ⟨_, e1, e⟩ := e
      refine xw_castA (o := v27.1) (show xm_Imp g Γ 53 (xi_castA (.int) 56) from xs_castB hG hΓ (ty := .int) (by decide +kernel) q1932 dX1_reverse_53) e1 ?_
      refine xw_asto (x := v27.1) (ls' := [some (.ref l0), some (.int l1), some (.int s.1), some (va_rf v27.1)]) (show xm_Imp g Γ 56 (xi_ast 3 57) from xs_astore_n hΓ dX1_reverse_56 (Nat.le_of_ble_eq_true rfl)) rfl ?_
      refine xw_ald (show xm_Imp g Γ 57 (xi_ald 0 58) from xs_aload_n hΓ dX1_reverse_57) rfl ?_
      obtain ⟨v28, e1, e⟩ := e
      refine xw_gr1 (o := (some l0)) (show xm_Imp g Γ 58 (xi_get 0 0 61) from xs_get hG hΓ (ci := 0) (kf := 0) rfl (Nat.le_of_ble_eq_true rfl) q343 dX1_reverse_58) rfl e1 ?_
      refine xw_aldo (x := v27.1) (show xm_Imp g Γ 61 (xi_ald 3 62) from xs_aload_n hΓ dX1_reverse_61) rfl ?_
      refine xw_psh (v := (.int (0))) (show xm_Imp g Γ 62 (xi_psh (.int (0)) 63) from xs_iconst hΓ dX1_reverse_62 (by decide)) ?_
      obtain ⟨a29, ha29, e⟩ := e
      obtain ⟨v30, e1, e⟩ := e
      refine xw_hial (o := v27.1) (show xm_Imp g Γ 63 (xi_ial 64) from xs_ial hG hΓ dX1_reverse_63) ha29 e1 ?_
      refine xw_sv1 (show xm_Imp g Γ 64 (xi_inv g M_X1_inverseOf 1 1 67) from xs_invS hG hΓ k_X1_inverseOf rfl q1933 q1934 dX1_reverse_64) (by simp [xm_stk, xv_cat, xc_int, xc_long, xc_float, xc_double, xc_ref]) (fun Q X hQ => K_X1_inverseOf hG v30 rfl hQ) ?_
      refine xw_aldo (x := v27.1) (show xm_Imp g Γ 67 (xi_ald 3 68) from xs_aload_n hΓ dX1_reverse_67) rfl ?_
      refine xw_psh (v := (.int (1))) (show xm_Imp g Γ 68 (xi_psh (.int (1)) 69) from xs_iconst hΓ dX1_reverse_68 (by decide)) ?_
      obtain ⟨v31, e1, e⟩ := e
      refine xw_hial (o := v27.1) (show xm_Imp g Γ 69 (xi_ial 70) from xs_ial hG hΓ dX1_reverse_69) ha29 e1 ?_
      refine xw_aldo (x := v27.1) (show xm_Imp g Γ 70 (xi_ald 3 71) from xs_aload_n hΓ dX1_reverse_70) rfl ?_
      refine xw_psh (v := (.int (2))) (show xm_Imp g Γ 71 (xi_psh (.int (2)) 72) from xs_iconst hΓ dX1_reverse_71 (by decide)) ?_
      obtain ⟨v32, e1, e⟩ := e
      refine xw_hial (o := v27.1) (show xm_Imp g Γ 72 (xi_ial 73) from xs_ial hG hΓ dX1_reverse_72) ha29 e1 ?_
      obtain ⟨a33, ha33, e⟩ := e
      obtain ⟨_, e0, e⟩ := e
      obtain ⟨v34, e1, e⟩ := e
      refine xw_hu3 (o := v28) (show xm_Imp g Γ 73 (xi_vir g 1 M_X2_gate 8 3 76) from xs_invV hG hΓ k_X2_gate rfl (ci := 1) rfl q1936 q1473 q1474 dX1_reverse_73) (by simp [xm_stk, xv_cat, xc_int, xc_long, xc_float, xc_double, xc_ref]) ha33 e0 (fun Q X hQ => K_X2_gate hG a33 (F_X1_inverseOf v30) v31 v32 _ e1 hQ) ?_
      refine xw_inc (v := (1)) (ls' := [some (.ref l0), some (.int l1), some (.int (s.1 + 1)), some (va_rf v27.1)]) (show xm_Imp g Γ 76 (xi_inc 2 (1) 79) from xs_iinc hΓ dX1_reverse_76 (by decide) (Nat.le_of_ble_eq_true rfl)) rfl rfl ?_
      refine xw_goto (show xm_Imp g Γ 79 (xi_goto 38) from xs_goto hΓ dX1_reverse_79 (by decide)) ?_
      have hq := hk38 _ e; exact xm_lx (hq) (And.intro rfl (And.intro rfl (And.intro rfl (trivial))))
  have hB_29 : ∀ (l0 : Nat) (l1 : Int32) (s0 : Int32) (h : xm_H) (bc : Nat) (bs : Nat), B_X1_reverse_29 g l0 l1 s0 h bc bs Q X → xm_W g Γ 29 [some (.ref l0), some (.int l1), none, none] [.int s0] h bc bs := by
    intro l0 l1 s0 h bc bs e
    unfold B_X1_reverse_29 at e
    obtain ⟨m10, m11, ⟨em1, em2⟩, e⟩ := e
    refine xw_tXsu1 (show xm_Imp g Γ 29 (xi_invX g M_X1_checkState 8 1 32 X) from xs_invSX hG hΓ k_X1_checkState rfl rfl q1891 q1892 dX1_reverse_29) rfl em1 em2 (K_X1_checkState hG s0 _ _ _ e) (fun h12 e => ?_)
    refine xw_ald (show xm_Imp g Γ 32 (xi_ald 0 33) from xs_aload_n hΓ dX1_reverse_32) rfl ?_
    obtain ⟨_, e0, e⟩ := e
    obtain ⟨m14, m15, ⟨em1, em2⟩, e⟩ := e
    refine xw_tvu0 (o := (some l0)) (show xm_Imp g Γ 33 (xi_vir g 0 M_X1_remember 12 0 36) from xs_invV hG hΓ k_X1_remember rfl (ci := 0) rfl q1243 q1245 qs23 dX1_reverse_33) rfl rfl e0 em1 em2 (K_X1_remember hG l0 _ _ _ e) (fun h16 e => ?_)
    refine xw_psh (v := (.int (0))) (show xm_Imp g Γ 36 (xi_psh (.int (0)) 37) from xs_iconst hΓ dX1_reverse_36 (by decide)) ?_
    refine xw_ist (ls' := [some (.ref l0), some (.int l1), some (.int 0), none]) (show xm_Imp g Γ 37 (xi_ist 2 38) from xs_istore_n hΓ dX1_reverse_37 (Nat.le_of_ble_eq_true rfl)) rfl ?_
    exact hL_38 _ _ _ e
  unfold F_X1_reverse at e
  refine xw_ild (show xm_Imp g Γ 0 (xi_ild 1 1) from xs_iload_n hΓ dX1_reverse_0) rfl ?_
  refine xw_psh (v := (.int (1))) (show xm_Imp g Γ 1 (xi_psh (.int (1)) 2) from xs_iconst hΓ dX1_reverse_1 (by decide)) ?_
  refine xw_psh (v := (.int (80))) (show xm_Imp g Γ 2 (xi_psh (.int (80)) 4) from xs_bipush hΓ dX1_reverse_2 (by decide)) ?_
  refine xw_sv3 (show xm_Imp g Γ 4 (xi_inv g M_X1_inRange 1 3 7) from xs_invS hG hΓ k_X1_inRange rfl q387 q388 dX1_reverse_4) rfl (fun Q X hQ => K_X1_inRange hG p1 1 80 rfl hQ) ?_
  obtain ⟨m1, m2, ⟨em1, em2⟩, e⟩ := e
  refine xw_tXsu1 (show xm_Imp g Γ 7 (xi_invX g M_X1_checkArgument 8 1 10 X) from xs_invSX hG hΓ k_X1_checkArgument rfl rfl q1868 q1869 dX1_reverse_7) rfl em1 em2 (K_X1_checkArgument hG (F_X1_inRange p1 1 80) _ _ _ e) (fun h3 e => ?_)
  refine xw_ild (show xm_Imp g Γ 10 (xi_ild 1 11) from xs_iload_n hΓ dX1_reverse_10) rfl ?_
  refine xw_ald (show xm_Imp g Γ 11 (xi_ald 0 12) from xs_aload_n hΓ dX1_reverse_11) rfl ?_
  obtain ⟨v5, e1, e⟩ := e
  refine xw_gr1 (o := (some p0)) (show xm_Imp g Γ 12 (xi_get 0 0 15) from xs_get hG hΓ (ci := 0) (kf := 0) rfl (Nat.le_of_ble_eq_true rfl) q343 dX1_reverse_12) rfl e1 ?_
  obtain ⟨a6, ha6, e⟩ := e
  obtain ⟨v7, e1, e⟩ := e
  refine xw_gr1 (o := v5) (show xm_Imp g Γ 15 (xi_get 1 2 18) from xs_getN hG hΓ (ci := 1) (kf := 2) rfl (Nat.le_of_ble_eq_true rfl) q280 dX1_reverse_15) ha6 e1 ?_
  obtain ⟨a8, ha8, e⟩ := e
  obtain ⟨_, e0, e⟩ := e
  obtain ⟨v9, e1, e⟩ := e
  refine xw_hv0 (o := v7) (show xm_Imp g Γ 18 (xi_vir g 13 M_J3_size 2 0 21) from xs_invV hG hΓ k_J3_size rfl (ci := 13) rfl q1165 q1166 q1167 dX1_reverse_18) (by simp [xm_stk, xv_cat, xc_int, xc_long, xc_float, xc_double, xc_ref]) ha8 e0 (fun Q X hQ => K_J3_size hG a8 _ e1 hQ) ?_
  refine xw_ic (show xm_Imp g Γ 21 (xi_ic (fun x y => y < x) 28 24) from xs_icmp_gt hΓ dX1_reverse_21 (by decide)) (fun c => ?_) (fun c => ?_)
  · rw [if_pos c] at e
    refine xw_psh (v := (.int (0))) (show xm_Imp g Γ 28 (xi_psh (.int (0)) 29) from xs_iconst hΓ dX1_reverse_28 (by decide)) ?_
    exact hB_29 _ _ _ _ _ _ e
  · rw [if_neg c] at e
    refine xw_psh (v := (.int (1))) (show xm_Imp g Γ 24 (xi_psh (.int (1)) 25) from xs_iconst hΓ dX1_reverse_24 (by decide)) ?_
    refine xw_goto (show xm_Imp g Γ 25 (xi_goto 29) from xs_goto hΓ dX1_reverse_25 (by decide)) ?_
    exact hB_29 _ _ _ _ _ _ e
noncomputable def B_X1_kept_23 (g : xm_G) (l0 : Nat) (l1 : Int32) (s0 : Int32) (h : xm_H) (bc : Nat) (bs : Nat) (Q : Option Nat → xm_H → Prop) (X : xm_X) : Prop :=
 xt_c bc bs (fun m8 m9 => F_X1_checkState g s0 h m8 m9 (fun h10 =>
 xt_b (xh_fr [(0, 3)] h10 l0) (fun v12 =>
 xt_b v12 (fun a13 =>
 xt_b (xh_ar "StringTableau$Tableau" h10 a13 l1) (fun v14 =>
 Q v14 h10)))) X)
noncomputable def F_X1_kept (g : xm_G) (p0 : Nat) (p1 : Int32) (h : xm_H) (bc : Nat) (bs : Nat) (Q : Option Nat → xm_H → Prop) (X : xm_X) : Prop :=
 xt_c bc bs (fun m1 m2 => F_X1_checkIndex g (F_X1_inRange p1 0 1) h m1 m2 (fun h3 =>
 xt_b (xh_fr [(0, 3)] h3 p0) (fun v5 =>
 xt_b v5 (fun a6 =>
 xt_b (xh_ar "StringTableau$Tableau" h3 a6 p1) (fun v7 =>
 B_X1_kept_23 g p0 p1 (if v7 = none then 0 else 1) h3 (bc - m1) (bs - m2) Q X)))) X)
set_option maxHeartbeats 4000000 in
theorem K_X1_kept {g : xm_G} (hG : xm_Gw g) (p0 : Nat) (p1 : Int32) (h : xm_H) (bc : Nat) (bs : Nat) {Q : Option Nat → xm_H → Prop} {X : xm_X} (e : F_X1_kept g p0 p1 h bc bs Q X) : xm_Run g M_X1_kept 9 [.ref p0, .int p1] h bc bs (fun v h' => ∃ r, v = some (va_rf r) ∧ Q r h') X := by
  refine xm_Run.of pn_StringTableau (Nat.le_of_ble_eq_true rfl) (fun Γ hΓ => ?_)
  show xm_W g Γ 0 [some (.ref p0), some (.int p1)] [] h bc bs
  have hB_23 : ∀ (l0 : Nat) (l1 : Int32) (s0 : Int32) (h : xm_H) (bc : Nat) (bs : Nat), B_X1_kept_23 g l0 l1 s0 h bc bs Q X → xm_W g Γ 23 [some (.ref l0), some (.int l1)] [.int s0] h bc bs := by
    intro l0 l1 s0 h bc bs e
    unfold B_X1_kept_23 at e
    obtain ⟨m8, m9, ⟨em1, em2⟩, e⟩ := e
    refine xw_tXsu1 (show xm_Imp g Γ 23 (xi_invX g M_X1_checkState 8 1 26 X) from xs_invSX hG hΓ k_X1_checkState rfl rfl q1891 q1892 dX1_kept_23) rfl em1 em2 (K_X1_checkState hG s0 _ _ _ e) (fun h10 e => ?_)
    refine xw_ald (show xm_Imp g Γ 26 (xi_ald 0 27) from xs_aload_n hΓ dX1_kept_26) rfl ?_
    obtain ⟨v12, e1, e⟩ := e
    refine xw_gr1 (o := (some l0)) (show xm_Imp g Γ 27 (xi_get 0 3 30) from xs_get hG hΓ (ci := 0) (kf := 3) rfl (Nat.le_of_ble_eq_true rfl) q348 dX1_kept_27) rfl e1 ?_
    refine xw_ild (show xm_Imp g Γ 30 (xi_ild 1 31) from xs_iload_n hΓ dX1_kept_30) rfl ?_
    obtain ⟨a13, ha13, e⟩ := e
    obtain ⟨v14, e1, e⟩ := e
    refine xw_haal (o := v12) (show xm_Imp g Γ 31 (xi_aal "StringTableau$Tableau" 32) from xs_aal hG hΓ dX1_kept_31) ha13 e1 ?_
    exact xw_areto (show xm_Imp g Γ 32 (xi_aret _) from xs_areturn hΓ rfl (Or.inl ⟨_, rfl⟩) dX1_kept_32) ⟨_, rfl, e⟩
  unfold F_X1_kept at e
  refine xw_ild (show xm_Imp g Γ 0 (xi_ild 1 1) from xs_iload_n hΓ dX1_kept_0) rfl ?_
  refine xw_psh (v := (.int (0))) (show xm_Imp g Γ 1 (xi_psh (.int (0)) 2) from xs_iconst hΓ dX1_kept_1 (by decide)) ?_
  refine xw_psh (v := (.int (1))) (show xm_Imp g Γ 2 (xi_psh (.int (1)) 3) from xs_iconst hΓ dX1_kept_2 (by decide)) ?_
  refine xw_sv3 (show xm_Imp g Γ 3 (xi_inv g M_X1_inRange 1 3 6) from xs_invS hG hΓ k_X1_inRange rfl q387 q388 dX1_kept_3) rfl (fun Q X hQ => K_X1_inRange hG p1 0 1 rfl hQ) ?_
  obtain ⟨m1, m2, ⟨em1, em2⟩, e⟩ := e
  refine xw_tXsu1 (show xm_Imp g Γ 6 (xi_invX g M_X1_checkIndex 8 1 9 X) from xs_invSX hG hΓ k_X1_checkIndex rfl rfl q1837 q1838 dX1_kept_6) rfl em1 em2 (K_X1_checkIndex hG (F_X1_inRange p1 0 1) _ _ _ e) (fun h3 e => ?_)
  refine xw_ald (show xm_Imp g Γ 9 (xi_ald 0 10) from xs_aload_n hΓ dX1_kept_9) rfl ?_
  obtain ⟨v5, e1, e⟩ := e
  refine xw_gr1 (o := (some p0)) (show xm_Imp g Γ 10 (xi_get 0 3 13) from xs_get hG hΓ (ci := 0) (kf := 3) rfl (Nat.le_of_ble_eq_true rfl) q348 dX1_kept_10) rfl e1 ?_
  refine xw_ild (show xm_Imp g Γ 13 (xi_ild 1 14) from xs_iload_n hΓ dX1_kept_13) rfl ?_
  obtain ⟨a6, ha6, e⟩ := e
  obtain ⟨v7, e1, e⟩ := e
  refine xw_haal (o := v5) (show xm_Imp g Γ 14 (xi_aal "StringTableau$Tableau" 15) from xs_aal hG hΓ dX1_kept_14) ha6 e1 ?_
  refine xw_nul (o := v7) (show xm_Imp g Γ 15 (xi_nul 22 18) from xs_ifnull hΓ dX1_kept_15 (by decide)) (fun c => ?_) (fun c => ?_)
  · rw [if_pos c] at e
    refine xw_psh (v := (.int (0))) (show xm_Imp g Γ 22 (xi_psh (.int (0)) 23) from xs_iconst hΓ dX1_kept_22 (by decide)) ?_
    exact hB_23 _ _ _ _ _ _ e
  · rw [if_neg c] at e
    refine xw_psh (v := (.int (1))) (show xm_Imp g Γ 18 (xi_psh (.int (1)) 19) from xs_iconst hΓ dX1_kept_18 (by decide)) ?_
    refine xw_goto (show xm_Imp g Γ 19 (xi_goto 23) from xs_goto hΓ dX1_kept_19 (by decide)) ?_
    exact hB_23 _ _ _ _ _ _ e
noncomputable def F_X1_goBack (g : xm_G) (p0 : Nat) (p1 : Int32) (h : xm_H) (bc : Nat) (bs : Nat) (Q : Int32 → xm_H → Prop) (X : xm_X) : Prop :=
 xt_b (xh_is 0 h p0) (fun _ =>
 xt_c bc bs (fun m1 m2 => F_X1_kept g p0 p1 h m1 m2 (fun v4 h3 =>
 xt_b v4 (fun a5 =>
 xt_b (xh_is 2 h3 a5) (fun _ =>
 xt_c (bc - m1) (bs - m2) (fun m6 m7 => F_X3_copy g a5 h3 m6 m7 (fun v9 h8 =>
 xt_b (xh_is 0 h8 p0) (fun _ =>
 xt_c ((bc - m1) - m6) ((bs - m2) - m7) (fun m10 m11 => F_X1_replaceRows g p0 v9 h8 m10 m11 (fun v13 h12 =>
 xt_b (xh_fr [(0, 0)] h12 p0) (fun v14 =>
 xt_b v14 (fun a15 =>
 xt_b (xh_fr [(1, 2)] h12 a15) (fun v16 =>
 xt_b v16 (fun a17 =>
 xt_b (xh_is 13 h12 a17) (fun _ =>
 xt_b (F_J3_clear g a17 h12) (fun v18 =>
 Q v13 v18)))))))))))))) X))
set_option maxHeartbeats 4000000 in
theorem K_X1_goBack {g : xm_G} (hG : xm_Gw g) (p0 : Nat) (p1 : Int32) (h : xm_H) (bc : Nat) (bs : Nat) {Q : Int32 → xm_H → Prop} {X : xm_X} (e : F_X1_goBack g p0 p1 h bc bs Q X) : xm_Run g M_X1_goBack 14 [.ref p0, .int p1] h bc bs (fun v h' => ∃ r, v = some (.int r) ∧ Q r h') X := by
  refine xm_Run.of pn_StringTableau (Nat.le_of_ble_eq_true rfl) (fun Γ hΓ => ?_)
  show xm_W g Γ 0 [some (.ref p0), some (.int p1), none] [] h bc bs
  unfold F_X1_goBack at e
  refine xw_ald (show xm_Imp g Γ 0 (xi_ald 0 1) from xs_aload_n hΓ dX1_goBack_0) rfl ?_
  refine xw_ald (show xm_Imp g Γ 1 (xi_ald 0 2) from xs_aload_n hΓ dX1_goBack_1) rfl ?_
  refine xw_ild (show xm_Imp g Γ 2 (xi_ild 1 3) from xs_iload_n hΓ dX1_goBack_2) rfl ?_
  obtain ⟨_, e0, e⟩ := e
  obtain ⟨m1, m2, ⟨em1, em2⟩, e⟩ := e
  refine xw_tXvr1 (o := (some p0)) (show xm_Imp g Γ 3 (xi_virX g 0 M_X1_kept 9 1 6 X) from xs_invVX hG hΓ k_X1_kept rfl rfl (ci := 0) rfl q1944 q1946 qs39 dX1_goBack_3) rfl rfl e0 em1 em2 (K_X1_kept hG p0 p1 _ _ _ e) (fun v4 h3 e => ?_)
  obtain ⟨a5, ha5, e⟩ := e
  obtain ⟨_, e0, e⟩ := e
  obtain ⟨m6, m7, ⟨em1, em2⟩, e⟩ := e
  refine xw_tvr0 (o := v4) (show xm_Imp g Γ 6 (xi_vir g 2 M_X3_copy 4 0 9) from xs_invV hG hΓ k_X3_copy rfl (ci := 2) rfl q1948 q1300 q1301 dX1_goBack_6) (by simp [xm_stk, xv_cat, xc_int, xc_long, xc_float, xc_double, xc_ref]) ha5 e0 em1 em2 (K_X3_copy hG a5 _ _ _ e) (fun v9 h8 e => ?_)
  obtain ⟨_, e0, e⟩ := e
  obtain ⟨m10, m11, ⟨em1, em2⟩, e⟩ := e
  refine xw_tvi1 (o := (some p0)) (show xm_Imp g Γ 9 (xi_vir g 0 M_X1_replaceRows 13 1 12) from xs_invV hG hΓ k_X1_replaceRows rfl (ci := 0) rfl q1621 q1623 qs35 dX1_goBack_9) rfl rfl e0 em1 em2 (K_X1_replaceRows hG p0 v9 _ _ _ e) (fun v13 h12 e => ?_)
  refine xw_ist (ls' := [some (.ref p0), some (.int p1), some (.int v13)]) (show xm_Imp g Γ 12 (xi_ist 2 13) from xs_istore_n hΓ dX1_goBack_12 (Nat.le_of_ble_eq_true rfl)) rfl ?_
  refine xw_ald (show xm_Imp g Γ 13 (xi_ald 0 14) from xs_aload_n hΓ dX1_goBack_13) rfl ?_
  obtain ⟨v14, e1, e⟩ := e
  refine xw_gr1 (o := (some p0)) (show xm_Imp g Γ 14 (xi_get 0 0 17) from xs_get hG hΓ (ci := 0) (kf := 0) rfl (Nat.le_of_ble_eq_true rfl) q343 dX1_goBack_14) rfl e1 ?_
  obtain ⟨a15, ha15, e⟩ := e
  obtain ⟨v16, e1, e⟩ := e
  refine xw_gr1 (o := v14) (show xm_Imp g Γ 17 (xi_get 1 2 20) from xs_getN hG hΓ (ci := 1) (kf := 2) rfl (Nat.le_of_ble_eq_true rfl) q280 dX1_goBack_17) ha15 e1 ?_
  obtain ⟨a17, ha17, e⟩ := e
  obtain ⟨_, e0, e⟩ := e
  obtain ⟨v18, e1, e⟩ := e
  refine xw_hu0 (o := v16) (show xm_Imp g Γ 20 (xi_vir g 13 M_J3_clear 2 0 23) from xs_invV hG hΓ k_J3_clear rfl (ci := 13) rfl q1115 q1116 q1117 dX1_goBack_20) (by simp [xm_stk, xv_cat, xc_int, xc_long, xc_float, xc_double, xc_ref]) ha17 e0 (fun Q X hQ => K_J3_clear hG a17 _ e1 hQ) ?_
  refine xw_ild (show xm_Imp g Γ 23 (xi_ild 2 24) from xs_iload_n hΓ dX1_goBack_23) rfl ?_
  exact xw_iret (show xm_Imp g Γ 24 (xi_iret .int _) from xs_ireturn hΓ rfl dX1_goBack_24) (xn_int _) ⟨_, rfl, e⟩
