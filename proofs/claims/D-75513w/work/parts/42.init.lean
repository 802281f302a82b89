/-! THE REFERENCE IS MADE (printed by gen/mklaw.py) -/
set_option maxRecDepth 100000
noncomputable def F_X5_init (g : xm_G) (p0 : Nat) (h : xm_H) (bc : Nat) (bs : Nat) (Q : xm_H → Prop) : Prop :=
 xt_b (xa_nat 530) (fun N5 =>
 xt_new h bc bs N5 (.inl (.int, N5, .inl (fun _ => 0))) (fun a1 h2 b3 b4 =>
 xt_b (xh_w [(4, 1)] h2 p0 (.ref a1)) (fun h6 =>
 xt_b (xa_nat 530) (fun N11 =>
 xt_new h6 b3 b4 N11 (.inl (.int, N11, .inl (fun _ => 0))) (fun a7 h8 b9 b10 =>
 xt_b (xh_w [(4, 2)] h8 p0 (.ref a7)) (fun h12 =>
 xt_b (xa_nat 530) (fun N17 =>
 xt_new h12 b9 b10 N17 (.inl (.int, N17, .inl (fun _ => 0))) (fun a13 h14 b15 b16 =>
 xt_b (xh_w [(4, 3)] h14 p0 (.ref a13)) (fun h18 =>
 xt_b (xa_nat 5300) (fun N23 =>
 xt_new h18 b15 b16 N23 (.inl (.int, N23, .inl (fun _ => 0))) (fun a19 h20 b21 b22 =>
 xt_b (xh_w [(4, 4)] h20 p0 (.ref a19)) (fun h24 =>
 xt_b (xa_nat 60) (fun N29 =>
 xt_new h24 b21 b22 N29 (.inl (.int, N29, .inl (fun _ => 0))) (fun a25 h26 b27 b28 =>
 xt_b (xh_w [(4, 9)] h26 p0 (.ref a25)) (fun h30 =>
 xt_b (xa_nat 60) (fun N35 =>
 xt_new h30 b27 b28 N35 (.inl (.int, N35, .inl (fun _ => 0))) (fun a31 h32 b33 b34 =>
 xt_b (xh_w [(4, 10)] h32 p0 (.ref a31)) (fun h36 =>
 xt_b (xa_nat 60) (fun N41 =>
 xt_new h36 b33 b34 N41 (.inl (.int, N41, .inl (fun _ => 0))) (fun a37 h38 b39 b40 =>
 xt_b (xh_w [(4, 11)] h38 p0 (.ref a37)) (fun h42 =>
 xt_b (xa_nat 60) (fun N47 =>
 xt_new h42 b39 b40 N47 (.inl (.int, N47, .inl (fun _ => 0))) (fun a43 h44 b45 b46 =>
 xt_b (xh_w [(4, 12)] h44 p0 (.ref a43)) (fun h48 =>
 xt_b (xa_nat 60) (fun N53 =>
 xt_new h48 b45 b46 N53 (.inl (.int, N53, .inl (fun _ => 0))) (fun a49 h50 b51 b52 =>
 xt_b (xh_w [(4, 13)] h50 p0 (.ref a49)) (fun h54 =>
 xt_b (xa_nat 60) (fun N59 =>
 xt_new h54 b51 b52 N59 (.inl (.int, N59, .inl (fun _ => 0))) (fun a55 h56 b57 b58 =>
 xt_b (xh_w [(4, 14)] h56 p0 (.ref a55)) (fun h60 =>
 xt_b (xa_nat 60) (fun N65 =>
 xt_new h60 b57 b58 N65 (.inl (.int, N65, .inl (fun _ => 0))) (fun a61 h62 b63 b64 =>
 xt_b (xh_w [(4, 15)] h62 p0 (.ref a61)) (fun h66 =>
 xt_b (xa_nat 60) (fun N71 =>
 xt_new h66 b63 b64 N71 (.inl (.int, N71, .inl (fun _ => 0))) (fun a67 h68 b69 b70 =>
 xt_b (xh_w [(4, 16)] h68 p0 (.ref a67)) (fun h72 =>
 xt_b (xa_nat 60) (fun N77 =>
 xt_new h72 b69 b70 N77 (.inl (.int, N77, .inl (fun _ => 0))) (fun a73 h74 b75 b76 =>
 xt_b (xh_w [(4, 17)] h74 p0 (.ref a73)) (fun h78 =>
 xt_b (xa_nat 700) (fun N83 =>
 xt_new h78 b75 b76 N83 (.inl (.byte, N83, .inl (fun _ => 0))) (fun a79 h80 b81 b82 =>
 xt_b (xh_w [(4, 19)] h80 p0 (.ref a79)) (fun h84 =>
 xt_b (xh_w [(4, 28)] h84 p0 (.int (-1))) (fun h85 =>
 xt_b (xa_nat 480) (fun N90 =>
 xt_new h85 b81 b82 N90 (.inl (.int, N90, .inl (fun _ => 0))) (fun a86 h87 b88 b89 =>
 xt_b (xh_w [(4, 33)] h87 p0 (.ref a86)) (fun h91 =>
 xt_b (xa_nat 256) (fun N96 =>
 xt_new h91 b88 b89 N96 (.inl (.int, N96, .inl (fun _ => 0))) (fun a92 h93 b94 b95 =>
 xt_b (xh_w [(4, 35)] h93 p0 (.ref a92)) (fun h97 =>
 xt_b (xa_nat 48) (fun N102 =>
 xt_new h97 b94 b95 N102 (.inl (.int, N102, .inl (fun _ => 0))) (fun a98 h99 b100 b101 =>
 xt_b (xh_w [(4, 36)] h99 p0 (.ref a98)) (fun h103 =>
 xt_b (xa_nat 2) (fun N108 =>
 xt_new h103 b100 b101 N108 (.inl (.boolean, N108, .inl (fun _ => 0))) (fun a104 h105 b106 b107 =>
 xt_b (xh_w [(4, 37)] h105 p0 (.ref a104)) (fun h109 =>
 xt_b (xa_nat 2400) (fun N114 =>
 xt_new h109 b106 b107 N114 (.inl (.byte, N114, .inl (fun _ => 0))) (fun a110 h111 b112 b113 =>
 xt_b (xh_w [(4, 40)] h111 p0 (.ref a110)) (fun h115 =>
 xt_m g h115 p0 (fun ad116 σ117 =>
 xt_b (F_X5_begins 1 0 σ117) (fun v118 =>
 Q (xMp h115 p0 ad116 v118)))))))))))))))))))))))))))))))))))))))))))))))))))))))))))))
set_option maxHeartbeats 4000000 in
theorem K_X5_init {g : xm_G} (hG : xm_Gw g) (p0 : Nat) (h : xm_H) (bc : Nat) (bs : Nat) {Q : xm_H → Prop} (e : F_X5_init g p0 h bc bs Q) : xm_Run g M_X5_init 2 [.ref p0] h bc bs (fun v h' => v = none ∧ Q h') xm_no := by
  refine xm_Run.of pn_StringTableauModel (Nat.le_of_ble_eq_true rfl) (fun Γ hΓ => ?_)
  show xm_W g Γ 0 [some (.ref p0)] [] h bc bs
  unfold F_X5_init at e
  refine xw_ald (show xm_Imp g Γ 0 (xi_ald 0 1) from xs_aload_n hΓ dX5_init_0) rfl ?_
  refine xw_obj (o := some p0) (show xm_Imp g Γ 1 (xi_obj 4) from xs_obj hG hΓ rfl q2845 dX5_init_1) rfl rfl ?_
  refine xw_ald (show xm_Imp g Γ 4 (xi_ald 0 5) from xs_aload_n hΓ dX5_init_4) rfl ?_
  refine xw_psh (v := (.int (530))) (show xm_Imp g Γ 5 (xi_psh (.int (530)) 8) from xs_sipush hΓ dX5_init_5 (by decide)) ?_
  obtain ⟨N5, e1, e⟩ := e
  refine xw_neai (show xm_Imp g Γ 8 (xi_nea .int xm_zi 10) from xs_newa (at0 := .int) hG hΓ rfl (by decide) (by decide) xm_zi xm_zi_int q267 dX5_init_8) e1 e (fun a1 h2 b3 b4 e => ?_)
  obtain ⟨h6, e1, e⟩ := e
  refine xw_pt1 (o := (some p0)) (show xm_Imp g Γ 10 (xi_put 4 1 (.array (.int)) 13) from xs_putF hG hΓ (ci := 4) (kf := 1) rfl (Nat.le_of_ble_eq_true rfl) rfl rfl rfl (by decide +kernel) q2851 dX5_init_10) rfl (xv_fit (Or.inr ⟨_, rfl⟩) (some a1)) e1 ?_
  refine xw_ald (show xm_Imp g Γ 13 (xi_ald 0 14) from xs_aload_n hΓ dX5_init_13) rfl ?_
  refine xw_psh (v := (.int (530))) (show xm_Imp g Γ 14 (xi_psh (.int (530)) 17) from xs_sipush hΓ dX5_init_14 (by decide)) ?_
  obtain ⟨N11, e1, e⟩ := e
  refine xw_neai (show xm_Imp g Γ 17 (xi_nea .int xm_zi 19) from xs_newa (at0 := .int) hG hΓ rfl (by decide) (by decide) xm_zi xm_zi_int q267 dX5_init_17) e1 e (fun a7 h8 b9 b10 e => ?_)
  obtain ⟨h12, e1, e⟩ := e
  refine xw_pt1 (o := (some p0)) (show xm_Imp g Γ 19 (xi_put 4 2 (.array (.int)) 22) from xs_putF hG hΓ (ci := 4) (kf := 2) rfl (Nat.le_of_ble_eq_true rfl) rfl rfl rfl (by decide +kernel) q2852 dX5_init_19) rfl (xv_fit (Or.inr ⟨_, rfl⟩) (some a7)) e1 ?_
  refine xw_ald (show xm_Imp g Γ 22 (xi_ald 0 23) from xs_aload_n hΓ dX5_init_22) rfl ?_
  refine xw_psh (v := (.int (530))) (show xm_Imp g Γ 23 (xi_psh (.int (530)) 26) from xs_sipush hΓ dX5_init_23 (by decide)) ?_
  obtain ⟨N17, e1, e⟩ := e
  refine xw_neai (show xm_Imp g Γ 26 (xi_nea .int xm_zi 28) from xs_newa (at0 := .int) hG hΓ rfl (by decide) (by decide) xm_zi xm_zi_int q267 dX5_init_26) e1 e (fun a13 h14 b15 b16 e => ?_)
  obtain ⟨h18, e1, e⟩ := e
  refine xw_pt1 (o := (some p0)) (show xm_Imp g Γ 28 (xi_put 4 3 (.array (.int)) 31) from xs_putF hG hΓ (ci := 4) (kf := 3) rfl (Nat.le_of_ble_eq_true rfl) rfl rfl rfl (by decide +kernel) q2853 dX5_init_28) rfl (xv_fit (Or.inr ⟨_, rfl⟩) (some a13)) e1 ?_
  refine xw_ald (show xm_Imp g Γ 31 (xi_ald 0 32) from xs_aload_n hΓ dX5_init_31) rfl ?_
  refine xw_psh (v := (.int (5300))) (show xm_Imp g Γ 32 (xi_psh (.int (5300)) 35) from xs_sipush hΓ dX5_init_32 (by decide)) ?_
  obtain ⟨N23, e1, e⟩ := e
  refine xw_neai (show xm_Imp g Γ 35 (xi_nea .int xm_zi 37) from xs_newa (at0 := .int) hG hΓ rfl (by decide) (by decide) xm_zi xm_zi_int q267 dX5_init_35) e1 e (fun a19 h20 b21 b22 e => ?_)
  obtain ⟨h24, e1, e⟩ := e
  refine xw_pt1 (o := (some p0)) (show xm_Imp g Γ 37 (xi_put 4 4 (.array (.int)) 40) from xs_putF hG hΓ (ci := 4) (kf := 4) rfl (Nat.le_of_ble_eq_true rfl) rfl rfl rfl (by decide +kernel) q2854 dX5_init_37) rfl (xv_fit (Or.inr ⟨_, rfl⟩) (some a19)) e1 ?_
  refine xw_ald (show xm_Imp g Γ 40 (xi_ald 0 41) from xs_aload_n hΓ dX5_init_40) rfl ?_
  refine xw_psh (v := (.int (60))) (show xm_Imp g Γ 41 (xi_psh (.int (60)) 43) from xs_bipush hΓ dX5_init_41 (by decide)) ?_
  obtain ⟨N29, e1, e⟩ := e
  refine xw_neai (show xm_Imp g Γ 43 (xi_nea .int xm_zi 45) from xs_newa (at0 := .int) hG hΓ rfl (by decide) (by decide) xm_zi xm_zi_int q267 dX5_init_43) e1 e (fun a25 h26 b27 b28 e => ?_)
  obtain ⟨h30, e1, e⟩ := e
  refine xw_pt1 (o := (some p0)) (show xm_Imp g Γ 45 (xi_put 4 9 (.array (.int)) 48) from xs_putF hG hΓ (ci := 4) (kf := 9) rfl (Nat.le_of_ble_eq_true rfl) rfl rfl rfl (by decide +kernel) q2859 dX5_init_45) rfl (xv_fit (Or.inr ⟨_, rfl⟩) (some a25)) e1 ?_
  refine xw_ald (show xm_Imp g Γ 48 (xi_ald 0 49) from xs_aload_n hΓ dX5_init_48) rfl ?_
  refine xw_psh (v := (.int (60))) (show xm_Imp g Γ 49 (xi_psh (.int (60)) 51) from xs_bipush hΓ dX5_init_49 (by decide)) ?_
  obtain ⟨N35, e1, e⟩ := e
  refine xw_neai (show xm_Imp g Γ 51 (xi_nea .int xm_zi 53) from xs_newa (at0 := .int) hG hΓ rfl (by decide) (by decide) xm_zi xm_zi_int q267 dX5_init_51) e1 e (fun a31 h32 b33 b34 e => ?_)
  obtain ⟨h36, e1, e⟩ := e
  refine xw_pt1 (o := (some p0)) (show xm_Imp g Γ 53 (xi_put 4 10 (.array (.int)) 56) from xs_putF hG hΓ (ci := 4) (kf := 10) rfl (Nat.le_of_ble_eq_true rfl) rfl rfl rfl (by decide +kernel) q2860 dX5_init_53) rfl (xv_fit (Or.inr ⟨_, rfl⟩) (some a31)) e1 ?_
  refine xw_ald (show xm_Imp g Γ 56 (xi_ald 0 57) from xs_aload_n hΓ dX5_init_56) rfl ?_
  refine xw_psh (v := (.int (60))) (show xm_Imp g Γ 57 (xi_psh (.int (60)) 59) from xs_bipush hΓ dX5_init_57 (by decide)) ?_
  obtain ⟨N41, e1, e⟩ := e
  refine xw_neai (show xm_Imp g Γ 59 (xi_nea .int xm_zi 61) from xs_newa (at0 := .int) hG hΓ rfl (by decide) (by decide) xm_zi xm_zi_int q267 dX5_init_59) e1 e (fun a37 h38 b39 b40 e => ?_)
  obtain ⟨h42, e1, e⟩ := e
  refine xw_pt1 (o := (some p0)) (show xm_Imp g Γ 61 (xi_put 4 11 (.array (.int)) 64) from xs_putF hG hΓ (ci := 4) (kf := 11) rfl (Nat.le_of_ble_eq_true rfl) rfl rfl rfl (by decide +kernel) q2861 dX5_init_61) rfl (xv_fit (Or.inr ⟨_, rfl⟩) (some a37)) e1 ?_
  refine xw_ald (show xm_Imp g Γ 64 (xi_ald 0 65) from xs_aload_n hΓ dX5_init_64) rfl ?_
  refine xw_psh (v := (.int (60))) (show xm_Imp g Γ 65 (xi_psh (.int (60)) 67) from xs_bipush hΓ dX5_init_65 (by decide)) ?_
  obtain ⟨N47, e1, e⟩ := e
  refine xw_neai (show xm_Imp g Γ 67 (xi_nea .int xm_zi 69) from xs_newa (at0 := .int) hG hΓ rfl (by decide) (by decide) xm_zi xm_zi_int q267 dX5_init_67) e1 e (fun a43 h44 b45 b46 e => ?_)
  obtain ⟨h48, e1, e⟩ := e
  refine xw_pt1 (o := (some p0)) (show xm_Imp g Γ 69 (xi_put 4 12 (.array (.int)) 72) from xs_putF hG hΓ (ci := 4) (kf := 12) rfl (Nat.le_of_ble_eq_true rfl) rfl rfl rfl (by decide +kernel) q2862 dX5_init_69) rfl (xv_fit (Or.inr ⟨_, rfl⟩) (some a43)) e1 ?_
  refine xw_ald (show xm_Imp g Γ 72 (xi_ald 0 73) from xs_aload_n hΓ dX5_init_72) rfl ?_
  refine xw_psh (v := (.int (60))) (show xm_Imp g Γ 73 (xi_psh (.int (60)) 75) from xs_bipush hΓ dX5_init_73 (by decide)) ?_
  obtain ⟨N53, e1, e⟩ := e
  refine xw_neai (show xm_Imp g Γ 75 (xi_nea .int xm_zi 77) from xs_newa (at0 := .int) hG hΓ rfl (by decide) (by decide) xm_zi xm_zi_int q267 dX5_init_75) e1 e (fun a49 h50 b51 b52 e => ?_)
  obtain ⟨h54, e1, e⟩ := e
  refine xw_pt1 (o := (some p0)) (show xm_Imp g Γ 77 (xi_put 4 13 (.array (.int)) 80) from xs_putF hG hΓ (ci := 4) (kf := 13) rfl (Nat.le_of_ble_eq_true rfl) rfl rfl rfl (by decide +kernel) q2863 dX5_init_77) rfl (xv_fit (Or.inr ⟨_, rfl⟩) (some a49)) e1 ?_
  refine xw_ald (show xm_Imp g Γ 80 (xi_ald 0 81) from xs_aload_n hΓ dX5_init_80) rfl ?_
  refine xw_psh (v := (.int (60))) (show xm_Imp g Γ 81 (xi_psh (.int (60)) 83) from xs_bipush hΓ dX5_init_81 (by decide)) ?_
  obtain ⟨N59, e1, e⟩ := e
  refine xw_neai (show xm_Imp g Γ 83 (xi_nea .int xm_zi 85) from xs_newa (at0 := .int) hG hΓ rfl (by decide) (by decide) xm_zi xm_zi_int q267 dX5_init_83) e1 e (fun a55 h56 b57 b58 e => ?_)
  obtain ⟨h60, e1, e⟩ := e
  refine xw_pt1 (o := (some p0)) (show xm_Imp g Γ 85 (xi_put 4 14 (.array (.int)) 88) from xs_putF hG hΓ (ci := 4) (kf := 14) rfl (Nat.le_of_ble_eq_true rfl) rfl rfl rfl (by decide +kernel) q2864 dX5_init_85) rfl (xv_fit (Or.inr ⟨_, rfl⟩) (some a55)) e1 ?_
  refine xw_ald (show xm_Imp g Γ 88 (xi_ald 0 89) from xs_aload_n hΓ dX5_init_88) rfl ?_
  refine xw_psh (v := (.int (60))) (show xm_Imp g Γ 89 (xi_psh (.int (60)) 91) from xs_bipush hΓ dX5_init_89 (by decide)) ?_
  obtain ⟨N65, e1, e⟩ := e
  refine xw_neai (show xm_Imp g Γ 91 (xi_nea .int xm_zi 93) from xs_newa (at0 := .int) hG hΓ rfl (by decide) (by decide) xm_zi xm_zi_int q267 dX5_init_91) e1 e (fun a61 h62 b63 b64 e => ?_)
  obtain ⟨h66, e1, e⟩ := e
  refine xw_pt1 (o := (some p0)) (show xm_Imp g Γ 93 (xi_put 4 15 (.array (.int)) 96) from xs_putF hG hΓ (ci := 4) (kf := 15) rfl (Nat.le_of_ble_eq_true rfl) rfl rfl rfl (by decide +kernel) q2865 dX5_init_93) rfl (xv_fit (Or.inr ⟨_, rfl⟩) (some a61)) e1 ?_
  refine xw_ald (show xm_Imp g Γ 96 (xi_ald 0 97) from xs_aload_n hΓ dX5_init_96) rfl ?_
  refine xw_psh (v := (.int (60))) (show xm_Imp g Γ 97 (xi_psh (.int (60)) 99) from xs_bipush hΓ dX5_init_97 (by decide)) ?_
  obtain ⟨N71, e1, e⟩ := e
  refine xw_neai (show xm_Imp g Γ 99 (xi_nea .int xm_zi 101) from xs_newa (at0 := .int) hG hΓ rfl (by decide) (by decide) xm_zi xm_zi_int q267 dX5_init_99) e1 e (fun a67 h68 b69 b70 e => ?_)
  obtain ⟨h72, e1, e⟩ := e
  refine xw_pt1 (o := (some p0)) (show xm_Imp g Γ 101 (xi_put 4 16 (.array (.int)) 104) from xs_putF hG hΓ (ci := 4) (kf := 16) rfl (Nat.le_of_ble_eq_true rfl) rfl rfl rfl (by decide +kernel) q2866 dX5_init_101) rfl (xv_fit (Or.inr ⟨_, rfl⟩) (some a67)) e1 ?_
  refine xw_ald (show xm_Imp g Γ 104 (xi_ald 0 105) from xs_aload_n hΓ dX5_init_104) rfl ?_
  refine xw_psh (v := (.int (60))) (show xm_Imp g Γ 105 (xi_psh (.int (60)) 107) from xs_bipush hΓ dX5_init_105 (by decide)) ?_
  obtain ⟨N77, e1, e⟩ := e
  refine xw_neai (show xm_Imp g Γ 107 (xi_nea .int xm_zi 109) from xs_newa (at0 := .int) hG hΓ rfl (by decide) (by decide) xm_zi xm_zi_int q267 dX5_init_107) e1 e (fun a73 h74 b75 b76 e => ?_)
  obtain ⟨h78, e1, e⟩ := e
  refine xw_pt1 (o := (some p0)) (show xm_Imp g Γ 109 (xi_put 4 17 (.array (.int)) 112) from xs_putF hG hΓ (ci := 4) (kf := 17) rfl (Nat.le_of_ble_eq_true rfl) rfl rfl rfl (by decide +kernel) q2867 dX5_init_109) rfl (xv_fit (Or.inr ⟨_, rfl⟩) (some a73)) e1 ?_
  refine xw_ald (show xm_Imp g Γ 112 (xi_ald 0 113) from xs_aload_n hΓ dX5_init_112) rfl ?_
  refine xw_psh (v := (.int (700))) (show xm_Imp g Γ 113 (xi_psh (.int (700)) 116) from xs_sipush hΓ dX5_init_113 (by decide)) ?_
  obtain ⟨N83, e1, e⟩ := e
  refine xw_neai (show xm_Imp g Γ 116 (xi_nea .byte xm_zi 118) from xs_newa (at0 := .byte) hG hΓ rfl (by decide) (by decide) xm_zi xm_zi_byte q342 dX5_init_116) e1 e (fun a79 h80 b81 b82 e => ?_)
  obtain ⟨h84, e1, e⟩ := e
  refine xw_pt1 (o := (some p0)) (show xm_Imp g Γ 118 (xi_put 4 19 (.array (.byte)) 121) from xs_putF hG hΓ (ci := 4) (kf := 19) rfl (Nat.le_of_ble_eq_true rfl) rfl rfl rfl (by decide +kernel) q2869 dX5_init_118) rfl (xv_fit (Or.inr ⟨_, rfl⟩) (some a79)) e1 ?_
  refine xw_ald (show xm_Imp g Γ 121 (xi_ald 0 122) from xs_aload_n hΓ dX5_init_121) rfl ?_
  refine xw_psh (v := (.int (-1))) (show xm_Imp g Γ 122 (xi_psh (.int (-1)) 123) from xs_iconst hΓ dX5_init_122 (by decide)) ?_
  obtain ⟨h85, e1, e⟩ := e
  refine xw_pt1 (o := (some p0)) (show xm_Imp g Γ 123 (xi_put 4 28 (.int) 126) from xs_put hG hΓ (ci := 4) (kf := 28) rfl (Nat.le_of_ble_eq_true rfl) rfl (by decide +kernel) q2878 dX5_init_123) rfl (xf_int _) e1 ?_
  refine xw_ald (show xm_Imp g Γ 126 (xi_ald 0 127) from xs_aload_n hΓ dX5_init_126) rfl ?_
  refine xw_psh (v := (.int (480))) (show xm_Imp g Γ 127 (xi_psh (.int (480)) 130) from xs_sipush hΓ dX5_init_127 (by decide)) ?_
  obtain ⟨N90, e1, e⟩ := e
  refine xw_neai (show xm_Imp g Γ 130 (xi_nea .int xm_zi 132) from xs_newa (at0 := .int) hG hΓ rfl (by decide) (by decide) xm_zi xm_zi_int q267 dX5_init_130) e1 e (fun a86 h87 b88 b89 e => ?_)
  obtain ⟨h91, e1, e⟩ := e
  refine xw_pt1 (o := (some p0)) (show xm_Imp g Γ 132 (xi_put 4 33 (.array (.int)) 135) from xs_putF hG hΓ (ci := 4) (kf := 33) rfl (Nat.le_of_ble_eq_true rfl) rfl rfl rfl (by decide +kernel) q2883 dX5_init_132) rfl (xv_fit (Or.inr ⟨_, rfl⟩) (some a86)) e1 ?_
  refine xw_ald (show xm_Imp g Γ 135 (xi_ald 0 136) from xs_aload_n hΓ dX5_init_135) rfl ?_
  refine xw_psh (v := (.int (256))) (show xm_Imp g Γ 136 (xi_psh (.int (256)) 139) from xs_sipush hΓ dX5_init_136 (by decide)) ?_
  obtain ⟨N96, e1, e⟩ := e
  refine xw_neai (show xm_Imp g Γ 139 (xi_nea .int xm_zi 141) from xs_newa (at0 := .int) hG hΓ rfl (by decide) (by decide) xm_zi xm_zi_int q267 dX5_init_139) e1 e (fun a92 h93 b94 b95 e => ?_)
  obtain ⟨h97, e1, e⟩ := e
  refine xw_pt1 (o := (some p0)) (show xm_Imp g Γ 141 (xi_put 4 35 (.array (.int)) 144) from xs_putF hG hΓ (ci := 4) (kf := 35) rfl (Nat.le_of_ble_eq_true rfl) rfl rfl rfl (by decide +kernel) q2885 dX5_init_141) rfl (xv_fit (Or.inr ⟨_, rfl⟩) (some a92)) e1 ?_
  refine xw_ald (show xm_Imp g Γ 144 (xi_ald 0 145) from xs_aload_n hΓ dX5_init_144) rfl ?_
  refine xw_psh (v := (.int (48))) (show xm_Imp g Γ 145 (xi_psh (.int (48)) 147) from xs_bipush hΓ dX5_init_145 (by decide)) ?_
  obtain ⟨N102, e1, e⟩ := e
  refine xw_neai (show xm_Imp g Γ 147 (xi_nea .int xm_zi 149) from xs_newa (at0 := .int) hG hΓ rfl (by decide) (by decide) xm_zi xm_zi_int q267 dX5_init_147) e1 e (fun a98 h99 b100 b101 e => ?_)
  obtain ⟨h103, e1, e⟩ := e
  refine xw_pt1 (o := (some p0)) (show xm_Imp g Γ 149 (xi_put 4 36 (.array (.int)) 152) from xs_putF hG hΓ (ci := 4) (kf := 36) rfl (Nat.le_of_ble_eq_true rfl) rfl rfl rfl (by decide +kernel) q2886 dX5_init_149) rfl (xv_fit (Or.inr ⟨_, rfl⟩) (some a98)) e1 ?_
  refine xw_ald (show xm_Imp g Γ 152 (xi_ald 0 153) from xs_aload_n hΓ dX5_init_152) rfl ?_
  refine xw_psh (v := (.int (2))) (show xm_Imp g Γ 153 (xi_psh (.int (2)) 154) from xs_iconst hΓ dX5_init_153 (by decide)) ?_
  obtain ⟨N108, e1, e⟩ := e
  refine xw_neai (show xm_Imp g Γ 154 (xi_nea .boolean xm_zi 156) from xs_newa (at0 := .boolean) hG hΓ rfl (by decide) (by decide) xm_zi xm_zi_boolean q2977 dX5_init_154) e1 e (fun a104 h105 b106 b107 e => ?_)
  obtain ⟨h109, e1, e⟩ := e
  refine xw_pt1 (o := (some p0)) (show xm_Imp g Γ 156 (xi_put 4 37 (.array (.boolean)) 159) from xs_putF hG hΓ (ci := 4) (kf := 37) rfl (Nat.le_of_ble_eq_true rfl) rfl rfl rfl (by decide +kernel) q2887 dX5_init_156) rfl (xv_fit (Or.inr ⟨_, rfl⟩) (some a104)) e1 ?_
  refine xw_ald (show xm_Imp g Γ 159 (xi_ald 0 160) from xs_aload_n hΓ dX5_init_159) rfl ?_
  refine xw_psh (v := (.int (2400))) (show xm_Imp g Γ 160 (xi_psh (.int (2400)) 163) from xs_sipush hΓ dX5_init_160 (by decide)) ?_
  obtain ⟨N114, e1, e⟩ := e
  refine xw_neai (show xm_Imp g Γ 163 (xi_nea .byte xm_zi 165) from xs_newa (at0 := .byte) hG hΓ rfl (by decide) (by decide) xm_zi xm_zi_byte q342 dX5_init_163) e1 e (fun a110 h111 b112 b113 e => ?_)
  obtain ⟨h115, e1, e⟩ := e
  refine xw_pt1 (o := (some p0)) (show xm_Imp g Γ 165 (xi_put 4 40 (.array (.byte)) 168) from xs_putF hG hΓ (ci := 4) (kf := 40) rfl (Nat.le_of_ble_eq_true rfl) rfl rfl rfl (by decide +kernel) q2890 dX5_init_165) rfl (xv_fit (Or.inr ⟨_, rfl⟩) (some a110)) e1 ?_
  refine xw_ald (show xm_Imp g Γ 168 (xi_ald 0 169) from xs_aload_n hΓ dX5_init_168) rfl ?_
  refine xw_psh (v := (.int (1))) (show xm_Imp g Γ 169 (xi_psh (.int (1)) 170) from xs_iconst hΓ dX5_init_169 (by decide)) ?_
  refine xw_psh (v := (.int (0))) (show xm_Imp g Γ 170 (xi_psh (.int (0)) 171) from xs_iconst hΓ dX5_init_170 (by decide)) ?_
  obtain ⟨ad116, σ117, hMad116, hBad116, hhad116, e⟩ := e
  obtain ⟨v118, e1, e⟩ := e
  refine xw_hu2 (o := (some p0)) (u := ()) (show xm_Imp g Γ 171 (xi_vir g 4 M_X5_begins 1 2 174) from xs_invV hG hΓ k_X5_begins rfl (ci := 4) rfl q2846 q2848 qs45 dX5_init_171) rfl rfl (xM_is hhad116) (xM_run hhad116 (fun Q X hQ => K_X5_begins hG hMad116 hBad116 1 0 σ117 e1 hQ)) ?_
  exact xw_vret (show xm_Imp g Γ 174 (xi_vret _) from xs_return hΓ rfl dX5_init_174) ⟨rfl, e⟩
