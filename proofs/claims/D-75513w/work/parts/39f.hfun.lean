/-! METHODS ON KNOWN CELLS as functions (printed by gen/mkhfun.py) -/
set_option maxRecDepth 100000
noncomputable def F_X8_init (g : xm_G) (p0 : Nat) (p1 : Option Nat) (p2 : Int32) (h : xm_H) : Option (xm_H) :=
 xo_b (xh_pot h p0 p1) (fun _ =>
 xo_b (xh_w [(7, 0), (8, 0)] h p0 (.int p2)) (fun h1 =>
 some h1))
set_option maxHeartbeats 4000000 in
theorem K_X8_init {g : xm_G} (hG : xm_Gw g) (p0 : Nat) (p1 : Option Nat) (p2 : Int32) (h : xm_H) {o : xm_H} (e : F_X8_init g p0 p1 p2 h = some o) {Q : xm_P} {X : xm_X} (hQ : Q none o) : xm_Run g M_X8_init 2 [.ref p0, va_rf p1, .int p2] h 0 0 Q X := by
  refine xm_Run.of2 (ls := [some (.ref p0), some (va_rf p1), some (.int p2)]) pn_StringTableau_Operation (by cases p1 <;> exact Nat.le_of_ble_eq_true rfl) (by cases p1 <;> rfl) (fun Γ hΓ => ?_)
  obtain ⟨P0, hP0, hp⟩ : ∃ P : xm_H → Prop, (∀ o, P o → Q none o) ∧ P o := ⟨fun o => Q none o, fun _ h => h, hQ⟩
  clear hQ
  show xm_W g Γ 0 [some (.ref p0), some (va_rf p1), some (.int p2)] [] h 0 0
  unfold F_X8_init at e
  refine xw_ald (show xm_Imp g Γ 0 (xi_ald 0 1) from xs_aload_n hΓ dX8_init_0) rfl ?_
  refine xw_aldo (x := p1) (show xm_Imp g Γ 1 (xi_ald 1 2) from xs_aload_n hΓ dX8_init_1) rfl ?_
  obtain ⟨_, e1, e⟩ := xo_b_s e
  refine xw_pot (o := (some p0)) (v := p1) (show xm_Imp g Γ 2 (xi_pot 5) from xs_pot hG hΓ rfl q1003 dX8_init_2) rfl e1 ?_
  refine xw_ald (show xm_Imp g Γ 5 (xi_ald 0 6) from xs_aload_n hΓ dX8_init_5) rfl ?_
  refine xw_obj (o := some p0) (show xm_Imp g Γ 6 (xi_obj 9) from xs_obj hG hΓ rfl q995 dX8_init_6) rfl rfl ?_
  refine xw_ald (show xm_Imp g Γ 9 (xi_ald 0 10) from xs_aload_n hΓ dX8_init_9) rfl ?_
  refine xw_ild (show xm_Imp g Γ 10 (xi_ild 2 11) from xs_iload_n hΓ dX8_init_10) rfl ?_
  obtain ⟨h1, e1, e⟩ := xo_b_s e
  refine xw_pt2 (o := (some p0)) (xm_or1 (show xm_Imp g Γ 11 (xi_or (xi_put 7 0 (.int) 14) (xi_put 8 0 (.int) 14)) from xs_or (xs_putF hG hΓ (ci := 7) (kf := 0) rfl (Nat.le_of_ble_eq_true rfl) rfl rfl rfl (by decide +kernel) q1000 dX8_init_11) (xs_putF hG hΓ (ci := 8) (kf := 0) rfl (Nat.le_of_ble_eq_true rfl) rfl rfl rfl (by decide +kernel) q1000 dX8_init_11))) (xm_or2 (show xm_Imp g Γ 11 (xi_or (xi_put 7 0 (.int) 14) (xi_put 8 0 (.int) 14)) from xs_or (xs_putF hG hΓ (ci := 7) (kf := 0) rfl (Nat.le_of_ble_eq_true rfl) rfl rfl rfl (by decide +kernel) q1000 dX8_init_11) (xs_putF hG hΓ (ci := 8) (kf := 0) rfl (Nat.le_of_ble_eq_true rfl) rfl rfl rfl (by decide +kernel) q1000 dX8_init_11))) rfl (xf_int _) e1 ?_
  exact xw_vret (show xm_Imp g Γ 14 (xi_vret _) from xs_return hΓ rfl dX8_init_14) (hP0 _ (xl_fin e hp))
noncomputable def F_X9_init (g : xm_G) (p0 : Nat) (p1 : Option Nat) (p2 : Option Nat) (p3 : Int32) (p4 : Int32) (h : xm_H) : Option (xm_H) :=
 xo_b (xh_w [(7, 4)] h p0 (va_rf p1)) (fun h1 =>
 xo_b (F_X8_init g p0 p1 9 h1) (fun v2 =>
 xo_b (xh_w [(7, 1)] v2 p0 (va_rf p2)) (fun h3 =>
 xo_b (xh_w [(7, 2)] h3 p0 (.int p3)) (fun h4 =>
 xo_b (xh_w [(7, 3)] h4 p0 (.int p4)) (fun h5 =>
 some h5)))))
set_option maxHeartbeats 4000000 in
theorem K_X9_init {g : xm_G} (hG : xm_Gw g) (p0 : Nat) (p1 : Option Nat) (p2 : Option Nat) (p3 : Int32) (p4 : Int32) (h : xm_H) {o : xm_H} (e : F_X9_init g p0 p1 p2 p3 p4 h = some o) {Q : xm_P} {X : xm_X} (hQ : Q none o) : xm_Run g M_X9_init 3 [.ref p0, va_rf p1, va_rf p2, .int p3, .int p4] h 0 0 Q X := by
  refine xm_Run.of2 (ls := [some (.ref p0), some (va_rf p1), some (va_rf p2), some (.int p3), some (.int p4)]) pn_StringTableau_MeasureOperation (by cases p1 <;> cases p2 <;> exact Nat.le_of_ble_eq_true rfl) (by cases p1 <;> cases p2 <;> rfl) (fun Γ hΓ => ?_)
  obtain ⟨P0, hP0, hp⟩ : ∃ P : xm_H → Prop, (∀ o, P o → Q none o) ∧ P o := ⟨fun o => Q none o, fun _ h => h, hQ⟩
  clear hQ
  show xm_W g Γ 0 [some (.ref p0), some (va_rf p1), some (va_rf p2), some (.int p3), some (.int p4)] [] h 0 0
  unfold F_X9_init at e
  refine xw_ald (show xm_Imp g Γ 0 (xi_ald 0 1) from xs_aload_n hΓ dX9_init_0) rfl ?_
  refine xw_aldo (x := p1) (show xm_Imp g Γ 1 (xi_ald 1 2) from xs_aload_n hΓ dX9_init_1) rfl ?_
  obtain ⟨h1, e1, e⟩ := xo_b_s e
  refine xw_pt1 (o := (some p0)) (show xm_Imp g Γ 2 (xi_put 7 4 (.object "StringTableau") 5) from xs_putF hG hΓ (ci := 7) (kf := 4) rfl (Nat.le_of_ble_eq_true rfl) rfl rfl rfl (by decide +kernel) q999 dX9_init_2) rfl (xv_fit (Or.inl ⟨_, rfl⟩) p1) e1 ?_
  refine xw_ald (show xm_Imp g Γ 5 (xi_ald 0 6) from xs_aload_n hΓ dX9_init_5) rfl ?_
  refine xw_aldo (x := p1) (show xm_Imp g Γ 6 (xi_ald 1 7) from xs_aload_n hΓ dX9_init_6) rfl ?_
  refine xw_psh (v := (.int (9))) (show xm_Imp g Γ 7 (xi_psh (.int (9)) 9) from xs_bipush hΓ dX9_init_7 (by decide)) ?_
  obtain ⟨v2, e1, e⟩ := xo_b_s e
  refine xw_pu2 (o := (some p0)) (show xm_Imp g Γ 9 (xi_spe g M_X8_init 2 2 12) from xs_invI hG hΓ k_X8_init rfl q992 q993 rfl dX9_init_9) rfl rfl (fun Q X hQ => K_X8_init hG p0 p1 9 _ e1 hQ) ?_
  refine xw_ald (show xm_Imp g Γ 12 (xi_ald 0 13) from xs_aload_n hΓ dX9_init_12) rfl ?_
  refine xw_aldo (x := p2) (show xm_Imp g Γ 13 (xi_ald 2 14) from xs_aload_n hΓ dX9_init_13) rfl ?_
  obtain ⟨h3, e1, e⟩ := xo_b_s e
  refine xw_pt1 (o := (some p0)) (show xm_Imp g Γ 14 (xi_put 7 1 (.object "StringTableau$Row") 17) from xs_putF hG hΓ (ci := 7) (kf := 1) rfl (Nat.le_of_ble_eq_true rfl) rfl rfl rfl (by decide +kernel) q996 dX9_init_14) rfl (xv_fit (Or.inl ⟨_, rfl⟩) p2) e1 ?_
  refine xw_ald (show xm_Imp g Γ 17 (xi_ald 0 18) from xs_aload_n hΓ dX9_init_17) rfl ?_
  refine xw_ild (show xm_Imp g Γ 18 (xi_ild 3 19) from xs_iload_n hΓ dX9_init_18) rfl ?_
  obtain ⟨h4, e1, e⟩ := xo_b_s e
  refine xw_pt1 (o := (some p0)) (show xm_Imp g Γ 19 (xi_put 7 2 (.int) 22) from xs_putF hG hΓ (ci := 7) (kf := 2) rfl (Nat.le_of_ble_eq_true rfl) rfl rfl rfl (by decide +kernel) q997 dX9_init_19) rfl (xf_int _) e1 ?_
  refine xw_ald (show xm_Imp g Γ 22 (xi_ald 0 23) from xs_aload_n hΓ dX9_init_22) rfl ?_
  refine xw_ild (show xm_Imp g Γ 23 (xi_ild 4 25) from xs_iload hΓ dX9_init_23) rfl ?_
  obtain ⟨h5, e1, e⟩ := xo_b_s e
  refine xw_pt1 (o := (some p0)) (show xm_Imp g Γ 25 (xi_put 7 3 (.int) 28) from xs_putF hG hΓ (ci := 7) (kf := 3) rfl (Nat.le_of_ble_eq_true rfl) rfl rfl rfl (by decide +kernel) q998 dX9_init_25) rfl (xf_int _) e1 ?_
  exact xw_vret (show xm_Imp g Γ 28 (xi_vret _) from xs_return hΓ rfl dX9_init_28) (hP0 _ (xl_fin e hp))
noncomputable def B_X6_measure_44 (g : xm_G) (l0 : Nat) (l2 : Option Nat) (s0 : Int32) (h : xm_H) (bc : Nat) (bs : Nat) (Q : xm_H → Prop) (X : xm_X) : Prop :=
 xt_b (xh_fr [(5, 0)] h l0) (fun v10 =>
 xt_new h bc bs 6 (.inr (7, [.int 0, .null, .int 0, .int 0, .null])) (fun a11 h12 b13 b14 =>
 xt_b (xh_fr [(5, 10)] h12 l0) (fun v15 =>
 xt_b (xh_fi [(5, 7)] h12 l0) (fun v16 =>
 xt_b (F_X9_init g a11 v15 l2 s0 v16 h12) (fun v17 =>
 xt_b v10 (fun a18 =>
 xt_b (xh_is 12 v17 a18) (fun _ =>
 xt_c b13 b14 (fun m19 m20 => F_J2_add g a18 (some a11) v17 m19 m20 (fun v22 h21 =>
 xt_b (xh_fi [(5, 7)] h21 l0) (fun v23 =>
 xt_b (xh_w [(5, 7)] h21 l0 (.int (v23 + 1))) (fun h24 =>
 Q h24)))))))))))
noncomputable def B_X6_measure_20 (g : xm_G) (l0 : Nat) (s0 : Int32) (h : xm_H) (bc : Nat) (bs : Nat) (Q : xm_H → Prop) (X : xm_X) : Prop :=
 xt_b (xh_is 5 h l0) (fun _ =>
 xt_c bc bs (fun m2 m3 => F_X6_string g l0 s0 h m2 m3 (fun v5 h4 =>
 xt_b (xh_is 5 h4 l0) (fun _ =>
 xt_c (bc - m2) (bs - m3) (fun m6 m7 => F_X6_accept g l0 (some (xm_sa g "StringTableau$Parser" 162)) h4 m6 m7 (fun v9 h8 =>
 (if v9 = 0 then
 B_X6_measure_44 g l0 v5 0 h8 ((bc - m2) - m6) ((bs - m3) - m7) Q X else
 xt_b (xh_is 5 h8 l0) (fun _ =>
 xt_c ((bc - m2) - m6) ((bs - m3) - m7) (fun m25 m26 => F_X6_sign g l0 h8 m25 m26 (fun v28 h27 =>
 B_X6_measure_44 g l0 v5 v28 h27 (((bc - m2) - m6) - m25) (((bs - m3) - m7) - m26) Q X) X))))))) X))
noncomputable def B_X6_measure_19 (g : xm_G) (l0 : Nat) (h : xm_H) (bc : Nat) (bs : Nat) (Q : xm_H → Prop) (X : xm_X) : Prop :=
 B_X6_measure_20 g l0 0 h bc bs Q X
noncomputable def F_X6_measure (g : xm_G) (p0 : Nat) (h : xm_H) (bc : Nat) (bs : Nat) (Q : xm_H → Prop) (X : xm_X) : Prop :=
 xt_b (xh_is 5 h p0) (fun _ =>
 xt_b (F_X6_isSign g p0 h) (fun v1 =>
 (if v1 = 0 then
 B_X6_measure_19 g p0 h bc bs Q X else
 xt_b (xh_is 5 h p0) (fun _ =>
 xt_c bc bs (fun m29 m30 => F_X6_sign g p0 h m29 m30 (fun v32 h31 =>
 B_X6_measure_20 g p0 (if v32 = ((-1) : Int32) then 1 else 0) h31 (bc - m29) (bs - m30) Q X) X)))))
set_option maxHeartbeats 4000000 in
theorem K_X6_measure {g : xm_G} (hG : xm_Gw g) (p0 : Nat) (h : xm_H) (bc : Nat) (bs : Nat) {Q : xm_H → Prop} {X : xm_X} (e : F_X6_measure g p0 h bc bs Q X) : xm_Run g M_X6_measure 22 [.ref p0] h bc bs (fun v h' => v = none ∧ Q h') X := by
  refine xm_Run.of pn_StringTableau_Parser (Nat.le_of_ble_eq_true rfl) (fun Γ hΓ => ?_)
  show xm_W g Γ 0 [some (.ref p0), none, none, none] [] h bc bs
  have hB_44 : ∀ (l0 : Nat) (l2 : Option Nat) (s0 : Int32) (h : xm_H) (bc : Nat) (bs : Nat), B_X6_measure_44 g l0 l2 s0 h bc bs Q X → xm_W g Γ 44 [some (.ref l0), none, some (va_rf l2), none] [.int s0] h bc bs := by
    intro l0 l2 s0 h bc bs e
    unfold B_X6_measure_44 at e
    refine xw_ist (ls' := [some (.ref l0), none, some (va_rf l2), some (.int s0)]) (show xm_Imp g Γ 44 (xi_ist 3 45) from xs_istore_n hΓ dX6_measure_44 (Nat.le_of_ble_eq_true rfl)) ((xm_s1_o (o := l2) rfl).trans rfl) ?_
    refine xw_ald (show xm_Imp g Γ 45 (xi_ald 0 46) from xs_aload_n hΓ dX6_measure_45) rfl ?_
    obtain ⟨v10, e1, e⟩ := e
    refine xw_gr1 (o := (some l0)) (show xm_Imp g Γ 46 (xi_get 5 0 49) from xs_get hG hΓ (ci := 5) (kf := 0) rfl (Nat.le_of_ble_eq_true rfl) q722 dX6_measure_46) rfl e1 ?_
    refine xw_new (show xm_Imp g Γ 49 (xi_new 7 6 [.int 0, .null, .int 0, .int 0, .null] 52) from xs_new hG hΓ (ci := 7) rfl q987 q988 q149 rfl tyM_ tyM_ok (xm_df 5 (by decide +kernel)) dX6_measure_49) e (fun a11 h12 b13 b14 e => ?_)
    refine xw_dup (show xm_Imp g Γ 52 (xi_dup 53) from xs_dup hΓ dX6_measure_52) rfl ?_
    refine xw_ald (show xm_Imp g Γ 53 (xi_ald 0 54) from xs_aload_n hΓ dX6_measure_53) rfl ?_
    obtain ⟨v15, e1, e⟩ := e
    refine xw_gr1 (o := (some l0)) (show xm_Imp g Γ 54 (xi_get 5 10 57) from xs_get hG hΓ (ci := 5) (kf := 10) rfl (Nat.le_of_ble_eq_true rfl) q733 dX6_measure_54) rfl e1 ?_
    refine xw_aldo (x := l2) (show xm_Imp g Γ 57 (xi_ald 2 58) from xs_aload_n hΓ dX6_measure_57) rfl ?_
    refine xw_ild (show xm_Imp g Γ 58 (xi_ild 3 59) from xs_iload_n hΓ dX6_measure_58) rfl ?_
    refine xw_ald (show xm_Imp g Γ 59 (xi_ald 0 60) from xs_aload_n hΓ dX6_measure_59) rfl ?_
    obtain ⟨v16, e1, e⟩ := e
    refine xw_gi1 (o := (some l0)) (show xm_Imp g Γ 60 (xi_get 5 7 63) from xs_get hG hΓ (ci := 5) (kf := 7) rfl (Nat.le_of_ble_eq_true rfl) q730 dX6_measure_60) rfl e1 ?_
    obtain ⟨v17, e1, e⟩ := e
    refine xw_pu4 (o := (some a11)) (show xm_Imp g Γ 63 (xi_spe g M_X9_init 3 4 66) from xs_invI hG hΓ k_X9_init rfl q989 q990 rfl dX6_measure_63) (by simp [xm_stk, xv_cat, xc_int, xc_long, xc_float, xc_double, xc_ref]) rfl (fun Q X hQ => K_X9_init hG a11 v15 l2 s0 v16 _ e1 hQ) ?_
    obtain ⟨a18, ha18, e⟩ := e
    obtain ⟨_, e0, e⟩ := e
    obtain ⟨m19, m20, ⟨em1, em2⟩, e⟩ := e
    refine xw_tvi1 (o := v10) (show xm_Imp g Γ 66 (xi_vir g 12 M_J2_add 11 1 71) from xs_invF hG hΓ k_J2_add rfl (ci := 12) rfl q1018 q1023 q1021 ⟨by decide, by decide⟩ (by decide +kernel) q1020 q1019 q1024 q1022 q903 dX6_measure_66) (by simp [xm_stk, xv_cat, xc_int, xc_long, xc_float, xc_double, xc_ref]) ha18 e0 em1 em2 (K_J2_add hG a18 (some a11) _ _ _ e) (fun v22 h21 e => ?_)
    refine xw_pop (show xm_Imp g Γ 71 (xi_pop 72) from xs_pop hΓ dX6_measure_71) rfl ?_
    refine xw_ald (show xm_Imp g Γ 72 (xi_ald 0 73) from xs_aload_n hΓ dX6_measure_72) rfl ?_
    refine xw_dup (show xm_Imp g Γ 73 (xi_dup 74) from xs_dup hΓ dX6_measure_73) rfl ?_
    obtain ⟨v23, e1, e⟩ := e
    refine xw_gi1 (o := (some l0)) (show xm_Imp g Γ 74 (xi_get 5 7 77) from xs_get hG hΓ (ci := 5) (kf := 7) rfl (Nat.le_of_ble_eq_true rfl) q730 dX6_measure_74) rfl e1 ?_
    refine xw_psh (v := (.int (1))) (show xm_Imp g Γ 77 (xi_psh (.int (1)) 78) from xs_iconst hΓ dX6_measure_77 (by decide)) ?_
    refine xw_ii (show xm_Imp g Γ 78 (xi_ii (fun x y => x + y) 79) from xs_iadd hΓ dX6_measure_78) ?_
    obtain ⟨h24, e1, e⟩ := e
    refine xw_pt1 (o := (some l0)) (show xm_Imp g Γ 79 (xi_put 5 7 (.int) 82) from xs_put hG hΓ (ci := 5) (kf := 7) rfl (Nat.le_of_ble_eq_true rfl) rfl (by decide +kernel) q730 dX6_measure_79) rfl (xf_int _) e1 ?_
    exact xw_vret (show xm_Imp g Γ 82 (xi_vret _) from xs_return hΓ rfl dX6_measure_82) ⟨rfl, e⟩
  have hB_20 : ∀ (l0 : Nat) (s0 : Int32) (h : xm_H) (bc : Nat) (bs : Nat), B_X6_measure_20 g l0 s0 h bc bs Q X → xm_W g Γ 20 [some (.ref l0), none, none, none] [.int s0] h bc bs := by
    intro l0 s0 h bc bs e
    unfold B_X6_measure_20 at e
    refine xw_ist (ls' := [some (.ref l0), some (.int s0), none, none]) (show xm_Imp g Γ 20 (xi_ist 1 21) from xs_istore_n hΓ dX6_measure_20 (Nat.le_of_ble_eq_true rfl)) rfl ?_
    refine xw_ald (show xm_Imp g Γ 21 (xi_ald 0 22) from xs_aload_n hΓ dX6_measure_21) rfl ?_
    refine xw_ild (show xm_Imp g Γ 22 (xi_ild 1 23) from xs_iload_n hΓ dX6_measure_22) rfl ?_
    obtain ⟨_, e0, e⟩ := e
    obtain ⟨m2, m3, ⟨em1, em2⟩, e⟩ := e
    refine xw_tXvr1 (o := (some l0)) (show xm_Imp g Γ 23 (xi_virX g 5 M_X6_string 21 1 26 X) from xs_invVX hG hΓ k_X6_string rfl rfl (ci := 5) rfl q921 q923 qs15 dX6_measure_23) rfl rfl e0 em1 em2 (K_X6_string hG l0 s0 _ _ _ e) (fun v5 h4 e => ?_)
    refine xw_asto (x := v5) (ls' := [some (.ref l0), some (.int s0), some (va_rf v5), none]) (show xm_Imp g Γ 26 (xi_ast 2 27) from xs_astore_n hΓ dX6_measure_26 (Nat.le_of_ble_eq_true rfl)) rfl ?_
    refine xw_ald (show xm_Imp g Γ 27 (xi_ald 0 28) from xs_aload_n hΓ dX6_measure_27) rfl ?_
    refine xw_psh (v := (.ref (xm_sa g "StringTableau$Parser" 162))) (show xm_Imp g Γ 28 (xi_psh (.ref (xm_sa g "StringTableau$Parser" 162)) 30) from xs_ldS hG hΓ q986 dX6_measure_28) ?_
    obtain ⟨_, e0, e⟩ := e
    obtain ⟨m6, m7, ⟨em1, em2⟩, e⟩ := e
    refine xw_tvi1 (o := (some l0)) (show xm_Imp g Γ 30 (xi_vir g 5 M_X6_accept 21 1 33) from xs_invV hG hΓ k_X6_accept rfl (ci := 5) rfl q762 q764 qs5 dX6_measure_30) rfl rfl e0 em1 em2 (K_X6_accept hG l0 (some (xm_sa g "StringTableau$Parser" 162)) _ _ _ e) (fun v9 h8 e => ?_)
    refine xw_if (show xm_Imp g Γ 33 (xi_if (fun x => x = 0) 43 36) from xs_if_eq hΓ dX6_measure_33 (by decide)) (fun c => ?_) (fun c => ?_)
    · rw [if_pos c] at e
      refine xw_psh (v := (.int (0))) (show xm_Imp g Γ 43 (xi_psh (.int (0)) 44) from xs_iconst hΓ dX6_measure_43 (by decide)) ?_
      exact xm_lx (hB_44 _ _ _ _ _ _ e) (And.intro rfl (And.intro rfl (trivial)))
    · rw [if_neg c] at e
      refine xw_ald (show xm_Imp g Γ 36 (xi_ald 0 37) from xs_aload_n hΓ dX6_measure_36) rfl ?_
      obtain ⟨_, e0, e⟩ := e
      obtain ⟨m25, m26, ⟨em1, em2⟩, e⟩ := e
      refine xw_tXvi0 (o := (some l0)) (show xm_Imp g Γ 37 (xi_virX g 5 M_X6_sign 21 0 40 X) from xs_invVX hG hΓ k_X6_sign rfl rfl (ci := 5) rfl q917 q919 qs14 dX6_measure_37) rfl rfl e0 em1 em2 (K_X6_sign hG l0 _ _ _ e) (fun v28 h27 e => ?_)
      refine xw_goto (show xm_Imp g Γ 40 (xi_goto 44) from xs_goto hΓ dX6_measure_40 (by decide)) ?_
      exact xm_lx (hB_44 _ _ _ _ _ _ e) (And.intro rfl (And.intro rfl (trivial)))
  have hB_19 : ∀ (l0 : Nat) (h : xm_H) (bc : Nat) (bs : Nat), B_X6_measure_19 g l0 h bc bs Q X → xm_W g Γ 19 [some (.ref l0), none, none, none] [] h bc bs := by
    intro l0 h bc bs e
    unfold B_X6_measure_19 at e
    refine xw_psh (v := (.int (0))) (show xm_Imp g Γ 19 (xi_psh (.int (0)) 20) from xs_iconst hΓ dX6_measure_19 (by decide)) ?_
    exact hB_20 _ _ _ _ _ e
  unfold F_X6_measure at e
  refine xw_ald (show xm_Imp g Γ 0 (xi_ald 0 1) from xs_aload_n hΓ dX6_measure_0) rfl ?_
  obtain ⟨_, e0, e⟩ := e
  obtain ⟨v1, e1, e⟩ := e
  refine xw_hv0 (o := (some p0)) (show xm_Imp g Γ 1 (xi_vir g 5 M_X6_isSign 1 0 4) from xs_invV hG hΓ k_X6_isSign rfl (ci := 5) rfl q913 q915 qs13 dX6_measure_1) rfl rfl e0 (fun Q X hQ => K_X6_isSign hG p0 _ e1 hQ) ?_
  refine xw_if (show xm_Imp g Γ 4 (xi_if (fun x => x = 0) 19 7) from xs_if_eq hΓ dX6_measure_4 (by decide)) (fun c => ?_) (fun c => ?_)
  · rw [if_pos c] at e
    exact hB_19 _ _ _ _ e
  · rw [if_neg c] at e
    refine xw_ald (show xm_Imp g Γ 7 (xi_ald 0 8) from xs_aload_n hΓ dX6_measure_7) rfl ?_
    obtain ⟨_, e0, e⟩ := e
    obtain ⟨m29, m30, ⟨em1, em2⟩, e⟩ := e
    refine xw_tXvi0 (o := (some p0)) (show xm_Imp g Γ 8 (xi_virX g 5 M_X6_sign 21 0 11 X) from xs_invVX hG hΓ k_X6_sign rfl rfl (ci := 5) rfl q917 q919 qs14 dX6_measure_8) rfl rfl e0 em1 em2 (K_X6_sign hG p0 _ _ _ e) (fun v32 h31 e => ?_)
    refine xw_psh (v := (.int (-1))) (show xm_Imp g Γ 11 (xi_psh (.int (-1)) 12) from xs_iconst hΓ dX6_measure_11 (by decide)) ?_
    refine xw_ic (show xm_Imp g Γ 12 (xi_ic (fun x y => x = y) 15 19) from xs_icmp_ne hΓ dX6_measure_12 (by decide)) (fun c => ?_) (fun c => ?_)
    · rw [if_pos c] at e
      refine xw_psh (v := (.int (1))) (show xm_Imp g Γ 15 (xi_psh (.int (1)) 16) from xs_iconst hΓ dX6_measure_15 (by decide)) ?_
      refine xw_goto (show xm_Imp g Γ 16 (xi_goto 20) from xs_goto hΓ dX6_measure_16 (by decide)) ?_
      exact hB_20 _ _ _ _ _ e
    · rw [if_neg c] at e
      refine xw_psh (v := (.int (0))) (show xm_Imp g Γ 19 (xi_psh (.int (0)) 20) from xs_iconst hΓ dX6_measure_19 (by decide)) ?_
      exact hB_20 _ _ _ _ _ e
def F_X1_isDouble (p0 : Int32) : Int32 :=
 (F_X1_inRange p0 6 8)
set_option maxHeartbeats 4000000 in
theorem K_X1_isDouble {g : xm_G} (hG : xm_Gw g) {h : xm_H} (p0 : Int32) {o : Int32} (e : F_X1_isDouble p0 = o) {Q : xm_P} {X : xm_X} (hQ : Q (some (.int o)) h) : xm_Run g M_X1_isDouble 2 [.int p0] h 0 0 Q X := by
  refine xm_Run.of pn_StringTableau (Nat.le_of_ble_eq_true rfl) (fun Γ hΓ => ?_)
  obtain ⟨P0, hP0, hp⟩ : ∃ P : Int32 → Prop, (∀ o, P o → Q (some (.int o)) h) ∧ P o := ⟨fun o => Q (some (.int o)) h, fun _ h => h, hQ⟩
  clear hQ
  show xm_W g Γ 0 [some (.int p0)] [] h 0 0
  unfold F_X1_isDouble at e
  refine xw_ild (show xm_Imp g Γ 0 (xi_ild 0 1) from xs_iload_n hΓ dX1_isDouble_0) rfl ?_
  refine xw_psh (v := (.int (6))) (show xm_Imp g Γ 1 (xi_psh (.int (6)) 3) from xs_bipush hΓ dX1_isDouble_1 (by decide)) ?_
  refine xw_psh (v := (.int (8))) (show xm_Imp g Γ 3 (xi_psh (.int (8)) 5) from xs_bipush hΓ dX1_isDouble_3 (by decide)) ?_
  refine xw_sv3 (show xm_Imp g Γ 5 (xi_inv g M_X1_inRange 1 3 8) from xs_invS hG hΓ k_X1_inRange rfl q387 q388 dX1_isDouble_5) rfl (fun Q X hQ => K_X1_inRange hG p0 6 8 rfl hQ) ?_
  exact xw_iret (show xm_Imp g Γ 8 (xi_iret .boolean _) from xs_ireturn hΓ rfl dX1_isDouble_8) (b_X1_inRange p0 6 8) (hP0 _ (xl_finV e hp))
theorem b_X1_isDouble (p0 : Int32) : narrow .boolean (.int (F_X1_isDouble p0)) = .int (F_X1_isDouble p0) := by
  unfold F_X1_isDouble
  (repeat' split) <;> first | with_reducible exact xb_n0 | with_reducible exact xb_n1 | with_reducible exact b_X1_inRange _ _ _
noncomputable def F_X10_init (g : xm_G) (p0 : Nat) (p1 : Option Nat) (p2 : Int32) (p3 : Int32) (p4 : Int32) (p5 : Int32) (h : xm_H) : Option (xm_H) :=
 xo_b (xh_w [(8, 4)] h p0 (va_rf p1)) (fun h1 =>
 xo_b (F_X8_init g p0 p1 p2 h1) (fun v2 =>
 xo_b (xh_w [(8, 1)] v2 p0 (.int p3)) (fun h3 =>
 xo_b (xh_w [(8, 2)] h3 p0 (.int p4)) (fun h4 =>
 xo_b (xh_w [(8, 3)] h4 p0 (.int p5)) (fun h5 =>
 some h5)))))
set_option maxHeartbeats 4000000 in
theorem K_X10_init {g : xm_G} (hG : xm_Gw g) (p0 : Nat) (p1 : Option Nat) (p2 : Int32) (p3 : Int32) (p4 : Int32) (p5 : Int32) (h : xm_H) {o : xm_H} (e : F_X10_init g p0 p1 p2 p3 p4 p5 h = some o) {Q : xm_P} {X : xm_X} (hQ : Q none o) : xm_Run g M_X10_init 3 [.ref p0, va_rf p1, .int p2, .int p3, .int p4, .int p5] h 0 0 Q X := by
  refine xm_Run.of2 (ls := [some (.ref p0), some (va_rf p1), some (.int p2), some (.int p3), some (.int p4), some (.int p5)]) pn_StringTableau_GateOperation (by cases p1 <;> exact Nat.le_of_ble_eq_true rfl) (by cases p1 <;> rfl) (fun Γ hΓ => ?_)
  obtain ⟨P0, hP0, hp⟩ : ∃ P : xm_H → Prop, (∀ o, P o → Q none o) ∧ P o := ⟨fun o => Q none o, fun _ h => h, hQ⟩
  clear hQ
  show xm_W g Γ 0 [some (.ref p0), some (va_rf p1), some (.int p2), some (.int p3), some (.int p4), some (.int p5)] [] h 0 0
  unfold F_X10_init at e
  refine xw_ald (show xm_Imp g Γ 0 (xi_ald 0 1) from xs_aload_n hΓ dX10_init_0) rfl ?_
  refine xw_aldo (x := p1) (show xm_Imp g Γ 1 (xi_ald 1 2) from xs_aload_n hΓ dX10_init_1) rfl ?_
  obtain ⟨h1, e1, e⟩ := xo_b_s e
  refine xw_pt1 (o := (some p0)) (show xm_Imp g Γ 2 (xi_put 8 4 (.object "StringTableau") 5) from xs_putF hG hΓ (ci := 8) (kf := 4) rfl (Nat.le_of_ble_eq_true rfl) rfl rfl rfl (by decide +kernel) q1101 dX10_init_2) rfl (xv_fit (Or.inl ⟨_, rfl⟩) p1) e1 ?_
  refine xw_ald (show xm_Imp g Γ 5 (xi_ald 0 6) from xs_aload_n hΓ dX10_init_5) rfl ?_
  refine xw_aldo (x := p1) (show xm_Imp g Γ 6 (xi_ald 1 7) from xs_aload_n hΓ dX10_init_6) rfl ?_
  refine xw_ild (show xm_Imp g Γ 7 (xi_ild 2 8) from xs_iload_n hΓ dX10_init_7) rfl ?_
  obtain ⟨v2, e1, e⟩ := xo_b_s e
  refine xw_pu2 (o := (some p0)) (show xm_Imp g Γ 8 (xi_spe g M_X8_init 2 2 11) from xs_invI hG hΓ k_X8_init rfl q1097 q993 rfl dX10_init_8) rfl rfl (fun Q X hQ => K_X8_init hG p0 p1 p2 _ e1 hQ) ?_
  refine xw_ald (show xm_Imp g Γ 11 (xi_ald 0 12) from xs_aload_n hΓ dX10_init_11) rfl ?_
  refine xw_ild (show xm_Imp g Γ 12 (xi_ild 3 13) from xs_iload_n hΓ dX10_init_12) rfl ?_
  obtain ⟨h3, e1, e⟩ := xo_b_s e
  refine xw_pt1 (o := (some p0)) (show xm_Imp g Γ 13 (xi_put 8 1 (.int) 16) from xs_putF hG hΓ (ci := 8) (kf := 1) rfl (Nat.le_of_ble_eq_true rfl) rfl rfl rfl (by decide +kernel) q1098 dX10_init_13) rfl (xf_int _) e1 ?_
  refine xw_ald (show xm_Imp g Γ 16 (xi_ald 0 17) from xs_aload_n hΓ dX10_init_16) rfl ?_
  refine xw_ild (show xm_Imp g Γ 17 (xi_ild 4 19) from xs_iload hΓ dX10_init_17) rfl ?_
  obtain ⟨h4, e1, e⟩ := xo_b_s e
  refine xw_pt1 (o := (some p0)) (show xm_Imp g Γ 19 (xi_put 8 2 (.int) 22) from xs_putF hG hΓ (ci := 8) (kf := 2) rfl (Nat.le_of_ble_eq_true rfl) rfl rfl rfl (by decide +kernel) q1099 dX10_init_19) rfl (xf_int _) e1 ?_
  refine xw_ald (show xm_Imp g Γ 22 (xi_ald 0 23) from xs_aload_n hΓ dX10_init_22) rfl ?_
  refine xw_ild (show xm_Imp g Γ 23 (xi_ild 5 25) from xs_iload hΓ dX10_init_23) rfl ?_
  obtain ⟨h5, e1, e⟩ := xo_b_s e
  refine xw_pt1 (o := (some p0)) (show xm_Imp g Γ 25 (xi_put 8 3 (.int) 28) from xs_putF hG hΓ (ci := 8) (kf := 3) rfl (Nat.le_of_ble_eq_true rfl) rfl rfl rfl (by decide +kernel) q1100 dX10_init_25) rfl (xf_int _) e1 ?_
  exact xw_vret (show xm_Imp g Γ 28 (xi_vret _) from xs_return hΓ rfl dX10_init_28) (hP0 _ (xl_fin e hp))
noncomputable def B_X6_gate_87 (g : xm_G) (l0 : Nat) (l1 : Int32) (l2 : Int32) (l3 : Int32) (l4 : Int32) (h : xm_H) (bc : Nat) (bs : Nat) (Q : xm_H → Prop) (X : xm_X) : Prop :=
 xt_b (xh_fr [(5, 0)] h l0) (fun v16 =>
 xt_new h bc bs 6 (.inr (8, [.int 0, .int 0, .int 0, .int 0, .null])) (fun a17 h18 b19 b20 =>
 xt_b (xh_fr [(5, 10)] h18 l0) (fun v21 =>
 xt_b (F_X10_init g a17 v21 l2 l3 l4 l1 h18) (fun v22 =>
 xt_b v16 (fun a23 =>
 xt_b (xh_is 12 v22 a23) (fun _ =>
 xt_c b19 b20 (fun m24 m25 => F_J2_add g a23 (some a17) v22 m24 m25 (fun v27 h26 =>
 Q h26))))))))
noncomputable def B_X6_gate_69 (g : xm_G) (l0 : Nat) (l1 : Int32) (l2 : Int32) (l3 : Int32) (s0 : Option Nat) (s1 : Int32) (h : xm_H) (bc : Nat) (bs : Nat) (Q : xm_H → Prop) (X : xm_X) : Prop :=
 xt_b s0 (fun a30 =>
 xt_b (xh_is 5 h a30) (fun _ =>
 xt_c bc bs (fun m31 m32 => F_X6_require g a30 s1 2 h m31 m32 (fun h33 =>
 xt_b (xh_fi [(5, 5)] h33 l0) (fun v35 =>
 xt_b (xh_is 5 h33 l0) (fun _ =>
 xt_c (bc - m31) (bs - m32) (fun m36 m37 => F_X6_number g l0 0 (v35 - 1) 2 h33 m36 m37 (fun v39 h38 =>
 B_X6_gate_87 g l0 l1 l2 l3 v39 h38 ((bc - m31) - m36) ((bs - m32) - m37) Q X) X)))) X)))
noncomputable def B_X6_gate_64 (g : xm_G) (l0 : Nat) (l1 : Int32) (l2 : Int32) (l3 : Int32) (s0 : Option Nat) (h : xm_H) (bc : Nat) (bs : Nat) (Q : xm_H → Prop) (X : xm_X) : Prop :=
 B_X6_gate_69 g l0 l1 l2 l3 s0 1 h bc bs Q X
noncomputable def B_X6_gate_16 (g : xm_G) (l0 : Nat) (l1 : Int32) (l2 : Int32) (s0 : Option Nat) (s1 : Int32) (h : xm_H) (bc : Nat) (bs : Nat) (Q : xm_H → Prop) (X : xm_X) : Prop :=
 xt_b s0 (fun a2 =>
 xt_b (xh_is 5 h a2) (fun _ =>
 xt_c bc bs (fun m3 m4 => F_X6_require g a2 s1 1 h m3 m4 (fun h5 =>
 xt_b (xh_is 5 h5 l0) (fun _ =>
 xt_c (bc - m3) (bs - m4) (fun m7 m8 => F_X6_advance g l0 h5 m7 m8 (fun h9 =>
 xt_b (xh_fi [(5, 5)] h9 l0) (fun v11 =>
 xt_b (xh_is 5 h9 l0) (fun _ =>
 xt_c ((bc - m3) - m7) ((bs - m4) - m8) (fun m12 m13 => F_X6_number g l0 0 (v11 - 1) 2 h9 m12 m13 (fun v15 h14 =>
 (if (F_X1_isDouble l2) = 0 then
 B_X6_gate_87 g l0 l1 l2 v15 (-1) h14 (((bc - m3) - m7) - m12) (((bs - m4) - m8) - m13) Q X else
 xt_b (xh_fi [(5, 3)] h14 l0) (fun v28 =>
 (if v28 = (3 : Int32) then
 xt_b (xh_fi [(5, 4)] h14 l0) (fun v29 =>
 B_X6_gate_69 g l0 l1 l2 v15 (some l0) (if v29 = v15 then 0 else 1) h14 (((bc - m3) - m7) - m12) (((bs - m4) - m8) - m13) Q X) else
 B_X6_gate_64 g l0 l1 l2 v15 (some l0) h14 (((bc - m3) - m7) - m12) (((bs - m4) - m8) - m13) Q X)))) X))))))) X)))
noncomputable def F_X6_gate (g : xm_G) (p0 : Nat) (p1 : Int32) (h : xm_H) (bc : Nat) (bs : Nat) (Q : xm_H → Prop) (X : xm_X) : Prop :=
 xt_b (xh_is 5 h p0) (fun _ =>
 xt_b (F_X6_gateKind g p0 h) (fun v1 =>
 B_X6_gate_16 g p0 p1 v1.1 (some p0) (if v1.1 = ((-1) : Int32) then 0 else 1) v1.2 bc bs Q X))
set_option maxHeartbeats 4000000 in
theorem K_X6_gate {g : xm_G} (hG : xm_Gw g) (p0 : Nat) (p1 : Int32) (h : xm_H) (bc : Nat) (bs : Nat) {Q : xm_H → Prop} {X : xm_X} (e : F_X6_gate g p0 p1 h bc bs Q X) : xm_Run g M_X6_gate 23 [.ref p0, .int p1] h bc bs (fun v h' => v = none ∧ Q h') X := by
  refine xm_Run.of pn_StringTableau_Parser (Nat.le_of_ble_eq_true rfl) (fun Γ hΓ => ?_)
  show xm_W g Γ 0 [some (.ref p0), some (.int p1), none, none, none] [] h bc bs
  have hB_87 : ∀ (l0 : Nat) (l1 : Int32) (l2 : Int32) (l3 : Int32) (l4 : Int32) (h : xm_H) (bc : Nat) (bs : Nat), B_X6_gate_87 g l0 l1 l2 l3 l4 h bc bs Q X → xm_W g Γ 87 [some (.ref l0), some (.int l1), some (.int l2), some (.int l3), some (.int l4)] [] h bc bs := by
    intro l0 l1 l2 l3 l4 h bc bs e
    unfold B_X6_gate_87 at e
    refine xw_ald (show xm_Imp g Γ 87 (xi_ald 0 88) from xs_aload_n hΓ dX6_gate_87) rfl ?_
    obtain ⟨v16, e1, e⟩ := e
    refine xw_gr1 (o := (some l0)) (show xm_Imp g Γ 88 (xi_get 5 0 91) from xs_get hG hΓ (ci := 5) (kf := 0) rfl (Nat.le_of_ble_eq_true rfl) q722 dX6_gate_88) rfl e1 ?_
    refine xw_new (show xm_Imp g Γ 91 (xi_new 8 6 [.int 0, .int 0, .int 0, .int 0, .null] 94) from xs_new hG hΓ (ci := 8) rfl q1092 q1093 q150 rfl tyG_ tyG_ok (xm_df 5 (by decide +kernel)) dX6_gate_91) e (fun a17 h18 b19 b20 e => ?_)
    refine xw_dup (show xm_Imp g Γ 94 (xi_dup 95) from xs_dup hΓ dX6_gate_94) rfl ?_
    refine xw_ald (show xm_Imp g Γ 95 (xi_ald 0 96) from xs_aload_n hΓ dX6_gate_95) rfl ?_
    obtain ⟨v21, e1, e⟩ := e
    refine xw_gr1 (o := (some l0)) (show xm_Imp g Γ 96 (xi_get 5 10 99) from xs_get hG hΓ (ci := 5) (kf := 10) rfl (Nat.le_of_ble_eq_true rfl) q733 dX6_gate_96) rfl e1 ?_
    refine xw_ild (show xm_Imp g Γ 99 (xi_ild 2 100) from xs_iload_n hΓ dX6_gate_99) rfl ?_
    refine xw_ild (show xm_Imp g Γ 100 (xi_ild 3 101) from xs_iload_n hΓ dX6_gate_100) rfl ?_
    refine xw_ild (show xm_Imp g Γ 101 (xi_ild 4 103) from xs_iload hΓ dX6_gate_101) rfl ?_
    refine xw_ild (show xm_Imp g Γ 103 (xi_ild 1 104) from xs_iload_n hΓ dX6_gate_103) rfl ?_
    obtain ⟨v22, e1, e⟩ := e
    refine xw_pu5 (o := (some a17)) (show xm_Imp g Γ 104 (xi_spe g M_X10_init 3 5 107) from xs_invI hG hΓ k_X10_init rfl q1094 q1095 rfl dX6_gate_104) (by simp [xm_stk, xv_cat, xc_int, xc_long, xc_float, xc_double, xc_ref]) rfl (fun Q X hQ => K_X10_init hG a17 v21 l2 l3 l4 l1 _ e1 hQ) ?_
    obtain ⟨a23, ha23, e⟩ := e
    obtain ⟨_, e0, e⟩ := e
    obtain ⟨m24, m25, ⟨em1, em2⟩, e⟩ := e
    refine xw_tvi1 (o := v16) (show xm_Imp g Γ 107 (xi_vir g 12 M_J2_add 11 1 112) from xs_invF hG hΓ k_J2_add rfl (ci := 12) rfl q1018 q1023 q1021 ⟨by decide, by decide⟩ (by decide +kernel) q1020 q1019 q1024 q1022 q903 dX6_gate_107) (by simp [xm_stk, xv_cat, xc_int, xc_long, xc_float, xc_double, xc_ref]) ha23 e0 em1 em2 (K_J2_add hG a23 (some a17) _ _ _ e) (fun v27 h26 e => ?_)
    refine xw_pop (show xm_Imp g Γ 112 (xi_pop 113) from xs_pop hΓ dX6_gate_112) rfl ?_
    exact xw_vret (show xm_Imp g Γ 113 (xi_vret _) from xs_return hΓ rfl dX6_gate_113) ⟨rfl, e⟩
  have hB_69 : ∀ (l0 : Nat) (l1 : Int32) (l2 : Int32) (l3 : Int32) (s0 : Option Nat) (s1 : Int32) (h : xm_H) (bc : Nat) (bs : Nat), B_X6_gate_69 g l0 l1 l2 l3 s0 s1 h bc bs Q X → xm_W g Γ 69 [some (.ref l0), some (.int l1), some (.int l2), some (.int l3), none] [.int s1, va_rf s0] h bc bs := by
    intro l0 l1 l2 l3 s0 s1 h bc bs e
    unfold B_X6_gate_69 at e
    refine xw_psh (v := (.int (2))) (show xm_Imp g Γ 69 (xi_psh (.int (2)) 70) from xs_iconst hΓ dX6_gate_69 (by decide)) ?_
    obtain ⟨a30, ha30, e⟩ := e
    obtain ⟨_, e0, e⟩ := e
    obtain ⟨m31, m32, ⟨em1, em2⟩, e⟩ := e
    refine xw_tXvu2 (o := s0) (show xm_Imp g Γ 70 (xi_virX g 5 M_X6_require 8 2 73 X) from xs_invVX hG hΓ k_X6_require rfl rfl (ci := 5) rfl q774 q776 qs6 dX6_gate_70) (by simp [xm_stk, xv_cat, xc_int, xc_long, xc_float, xc_double, xc_ref]) ha30 e0 em1 em2 (K_X6_require hG a30 s1 2 _ _ _ e) (fun h33 e => ?_)
    refine xw_ald (show xm_Imp g Γ 73 (xi_ald 0 74) from xs_aload_n hΓ dX6_gate_73) rfl ?_
    refine xw_psh (v := (.int (0))) (show xm_Imp g Γ 74 (xi_psh (.int (0)) 75) from xs_iconst hΓ dX6_gate_74 (by decide)) ?_
    refine xw_ald (show xm_Imp g Γ 75 (xi_ald 0 76) from xs_aload_n hΓ dX6_gate_75) rfl ?_
    obtain ⟨v35, e1, e⟩ := e
    refine xw_gi1 (o := (some l0)) (show xm_Imp g Γ 76 (xi_get 5 5 79) from xs_get hG hΓ (ci := 5) (kf := 5) rfl (Nat.le_of_ble_eq_true rfl) q728 dX6_gate_76) rfl e1 ?_
    refine xw_psh (v := (.int (1))) (show xm_Imp g Γ 79 (xi_psh (.int (1)) 80) from xs_iconst hΓ dX6_gate_79 (by decide)) ?_
    refine xw_ii (show xm_Imp g Γ 80 (xi_ii (fun x y => x - y) 81) from xs_isub hΓ dX6_gate_80) ?_
    refine xw_psh (v := (.int (2))) (show xm_Imp g Γ 81 (xi_psh (.int (2)) 82) from xs_iconst hΓ dX6_gate_81 (by decide)) ?_
    obtain ⟨_, e0, e⟩ := e
    obtain ⟨m36, m37, ⟨em1, em2⟩, e⟩ := e
    refine xw_tXvi3 (o := (some l0)) (show xm_Imp g Γ 82 (xi_virX g 5 M_X6_number 21 3 85 X) from xs_invVX hG hΓ k_X6_number rfl rfl (ci := 5) rfl q806 q808 qs7 dX6_gate_82) rfl rfl e0 em1 em2 (K_X6_number hG l0 0 (v35 - 1) 2 _ _ _ e) (fun v39 h38 e => ?_)
    refine xw_ist (ls' := [some (.ref l0), some (.int l1), some (.int l2), some (.int l3), some (.int v39)]) (show xm_Imp g Γ 85 (xi_ist 4 87) from xs_istore hΓ dX6_gate_85 (Nat.le_of_ble_eq_true rfl)) rfl ?_
    exact hB_87 _ _ _ _ _ _ _ _ e
  have hB_64 : ∀ (l0 : Nat) (l1 : Int32) (l2 : Int32) (l3 : Int32) (s0 : Option Nat) (h : xm_H) (bc : Nat) (bs : Nat), B_X6_gate_64 g l0 l1 l2 l3 s0 h bc bs Q X → xm_W g Γ 64 [some (.ref l0), some (.int l1), some (.int l2), some (.int l3), none] [va_rf s0] h bc bs := by
    intro l0 l1 l2 l3 s0 h bc bs e
    unfold B_X6_gate_64 at e
    refine xw_psh (v := (.int (1))) (show xm_Imp g Γ 64 (xi_psh (.int (1)) 65) from xs_iconst hΓ dX6_gate_64 (by decide)) ?_
    refine xw_goto (show xm_Imp g Γ 65 (xi_goto 69) from xs_goto hΓ dX6_gate_65 (by decide)) ?_
    exact hB_69 _ _ _ _ _ _ _ _ _ e
  have hB_16 : ∀ (l0 : Nat) (l1 : Int32) (l2 : Int32) (s0 : Option Nat) (s1 : Int32) (h : xm_H) (bc : Nat) (bs : Nat), B_X6_gate_16 g l0 l1 l2 s0 s1 h bc bs Q X → xm_W g Γ 16 [some (.ref l0), some (.int l1), some (.int l2), none, none] [.int s1, va_rf s0] h bc bs := by
    intro l0 l1 l2 s0 s1 h bc bs e
    unfold B_X6_gate_16 at e
    refine xw_psh (v := (.int (1))) (show xm_Imp g Γ 16 (xi_psh (.int (1)) 17) from xs_iconst hΓ dX6_gate_16 (by decide)) ?_
    obtain ⟨a2, ha2, e⟩ := e
    obtain ⟨_, e0, e⟩ := e
    obtain ⟨m3, m4, ⟨em1, em2⟩, e⟩ := e
    refine xw_tXvu2 (o := s0) (show xm_Imp g Γ 17 (xi_virX g 5 M_X6_require 8 2 20 X) from xs_invVX hG hΓ k_X6_require rfl rfl (ci := 5) rfl q774 q776 qs6 dX6_gate_17) (by simp [xm_stk, xv_cat, xc_int, xc_long, xc_float, xc_double, xc_ref]) ha2 e0 em1 em2 (K_X6_require hG a2 s1 1 _ _ _ e) (fun h5 e => ?_)
    refine xw_ald (show xm_Imp g Γ 20 (xi_ald 0 21) from xs_aload_n hΓ dX6_gate_20) rfl ?_
    obtain ⟨_, e0, e⟩ := e
    obtain ⟨m7, m8, ⟨em1, em2⟩, e⟩ := e
    refine xw_tvu0 (o := (some l0)) (show xm_Imp g Γ 21 (xi_vir g 5 M_X6_advance 20 0 24) from xs_invV hG hΓ k_X6_advance rfl (ci := 5) rfl q404 q406 qs1 dX6_gate_21) rfl rfl e0 em1 em2 (K_X6_advance hG l0 _ _ _ e) (fun h9 e => ?_)
    refine xw_ald (show xm_Imp g Γ 24 (xi_ald 0 25) from xs_aload_n hΓ dX6_gate_24) rfl ?_
    refine xw_psh (v := (.int (0))) (show xm_Imp g Γ 25 (xi_psh (.int (0)) 26) from xs_iconst hΓ dX6_gate_25 (by decide)) ?_
    refine xw_ald (show xm_Imp g Γ 26 (xi_ald 0 27) from xs_aload_n hΓ dX6_gate_26) rfl ?_
    obtain ⟨v11, e1, e⟩ := e
    refine xw_gi1 (o := (some l0)) (show xm_Imp g Γ 27 (xi_get 5 5 30) from xs_get hG hΓ (ci := 5) (kf := 5) rfl (Nat.le_of_ble_eq_true rfl) q728 dX6_gate_27) rfl e1 ?_
    refine xw_psh (v := (.int (1))) (show xm_Imp g Γ 30 (xi_psh (.int (1)) 31) from xs_iconst hΓ dX6_gate_30 (by decide)) ?_
    refine xw_ii (show xm_Imp g Γ 31 (xi_ii (fun x y => x - y) 32) from xs_isub hΓ dX6_gate_31) ?_
    refine xw_psh (v := (.int (2))) (show xm_Imp g Γ 32 (xi_psh (.int (2)) 33) from xs_iconst hΓ dX6_gate_32 (by decide)) ?_
    obtain ⟨_, e0, e⟩ := e
    obtain ⟨m12, m13, ⟨em1, em2⟩, e⟩ := e
    refine xw_tXvi3 (o := (some l0)) (show xm_Imp g Γ 33 (xi_virX g 5 M_X6_number 21 3 36 X) from xs_invVX hG hΓ k_X6_number rfl rfl (ci := 5) rfl q806 q808 qs7 dX6_gate_33) rfl rfl e0 em1 em2 (K_X6_number hG l0 0 (v11 - 1) 2 _ _ _ e) (fun v15 h14 e => ?_)
    refine xw_ist (ls' := [some (.ref l0), some (.int l1), some (.int l2), some (.int v15), none]) (show xm_Imp g Γ 36 (xi_ist 3 37) from xs_istore_n hΓ dX6_gate_36 (Nat.le_of_ble_eq_true rfl)) rfl ?_
    refine xw_psh (v := (.int (-1))) (show xm_Imp g Γ 37 (xi_psh (.int (-1)) 38) from xs_iconst hΓ dX6_gate_37 (by decide)) ?_
    refine xw_ist (ls' := [some (.ref l0), some (.int l1), some (.int l2), some (.int v15), some (.int (-1))]) (show xm_Imp g Γ 38 (xi_ist 4 40) from xs_istore hΓ dX6_gate_38 (Nat.le_of_ble_eq_true rfl)) rfl ?_
    refine xw_ild (show xm_Imp g Γ 40 (xi_ild 2 41) from xs_iload_n hΓ dX6_gate_40) rfl ?_
    refine xw_sv1 (show xm_Imp g Γ 41 (xi_inv g M_X1_isDouble 2 1 44) from xs_invSN hG hΓ k_X1_isDouble rfl q1089 q1090 dX6_gate_41) rfl (fun Q X hQ => K_X1_isDouble hG l2 rfl hQ) ?_
    refine xw_if (show xm_Imp g Γ 44 (xi_if (fun x => x = 0) 87 47) from xs_if_eq hΓ dX6_gate_44 (by decide)) (fun c => ?_) (fun c => ?_)
    · rw [if_pos c] at e
      exact hB_87 _ _ _ _ _ _ _ _ e
    · rw [if_neg c] at e
      refine xw_ald (show xm_Imp g Γ 47 (xi_ald 0 48) from xs_aload_n hΓ dX6_gate_47) rfl ?_
      refine xw_ald (show xm_Imp g Γ 48 (xi_ald 0 49) from xs_aload_n hΓ dX6_gate_48) rfl ?_
      obtain ⟨v28, e1, e⟩ := e
      refine xw_gi1 (o := (some l0)) (show xm_Imp g Γ 49 (xi_get 5 3 52) from xs_get hG hΓ (ci := 5) (kf := 3) rfl (Nat.le_of_ble_eq_true rfl) q726 dX6_gate_49) rfl e1 ?_
      refine xw_psh (v := (.int (3))) (show xm_Imp g Γ 52 (xi_psh (.int (3)) 53) from xs_iconst hΓ dX6_gate_52 (by decide)) ?_
      refine xw_ic (show xm_Imp g Γ 53 (xi_ic (fun x y => x = y) 56 64) from xs_icmp_ne hΓ dX6_gate_53 (by decide)) (fun c => ?_) (fun c => ?_)
      · rw [if_pos c] at e
        refine xw_ald (show xm_Imp g Γ 56 (xi_ald 0 57) from xs_aload_n hΓ dX6_gate_56) rfl ?_
        obtain ⟨v29, e1, e⟩ := e
        refine xw_gi1 (o := (some l0)) (show xm_Imp g Γ 57 (xi_get 5 4 60) from xs_get hG hΓ (ci := 5) (kf := 4) rfl (Nat.le_of_ble_eq_true rfl) q727 dX6_gate_57) rfl e1 ?_
        refine xw_ild (show xm_Imp g Γ 60 (xi_ild 3 61) from xs_iload_n hΓ dX6_gate_60) rfl ?_
        refine xw_ic (show xm_Imp g Γ 61 (xi_ic (fun x y => x = y) 68 64) from xs_icmp_eq hΓ dX6_gate_61 (by decide)) (fun c => ?_) (fun c => ?_)
        · rw [if_pos c] at e
          refine xw_psh (v := (.int (0))) (show xm_Imp g Γ 68 (xi_psh (.int (0)) 69) from xs_iconst hΓ dX6_gate_68 (by decide)) ?_
          exact xm_lx (hB_69 _ _ _ _ _ _ _ _ _ e) (And.intro rfl (And.intro rfl (And.intro rfl (And.intro rfl (trivial)))))
        · rw [if_neg c] at e
          refine xw_psh (v := (.int (1))) (show xm_Imp g Γ 64 (xi_psh (.int (1)) 65) from xs_iconst hΓ dX6_gate_64 (by decide)) ?_
          refine xw_goto (show xm_Imp g Γ 65 (xi_goto 69) from xs_goto hΓ dX6_gate_65 (by decide)) ?_
          exact xm_lx (hB_69 _ _ _ _ _ _ _ _ _ e) (And.intro rfl (And.intro rfl (And.intro rfl (And.intro rfl (trivial)))))
      · rw [if_neg c] at e
        exact xm_lx (hB_64 _ _ _ _ _ _ _ _ e) (And.intro rfl (And.intro rfl (And.intro rfl (And.intro rfl (trivial)))))
  unfold F_X6_gate at e
  refine xw_ald (show xm_Imp g Γ 0 (xi_ald 0 1) from xs_aload_n hΓ dX6_gate_0) rfl ?_
  obtain ⟨_, e0, e⟩ := e
  obtain ⟨v1, e1, e⟩ := e
  refine xw_hv0 (o := (some p0)) (show xm_Imp g Γ 1 (xi_vir g 5 M_X6_gateKind 22 0 4) from xs_invV hG hΓ k_X6_gateKind rfl (ci := 5) rfl q825 q827 qs11 dX6_gate_1) rfl rfl e0 (fun Q X hQ => K_X6_gateKind hG p0 _ e1 hQ) ?_
  refine xw_ist (ls' := [some (.ref p0), some (.int p1), some (.int v1.1), none, none]) (show xm_Imp g Γ 4 (xi_ist 2 5) from xs_istore_n hΓ dX6_gate_4 (Nat.le_of_ble_eq_true rfl)) rfl ?_
  refine xw_ald (show xm_Imp g Γ 5 (xi_ald 0 6) from xs_aload_n hΓ dX6_gate_5) rfl ?_
  refine xw_ild (show xm_Imp g Γ 6 (xi_ild 2 7) from xs_iload_n hΓ dX6_gate_6) rfl ?_
  refine xw_psh (v := (.int (-1))) (show xm_Imp g Γ 7 (xi_psh (.int (-1)) 8) from xs_iconst hΓ dX6_gate_7 (by decide)) ?_
  refine xw_ic (show xm_Imp g Γ 8 (xi_ic (fun x y => x = y) 15 11) from xs_icmp_eq hΓ dX6_gate_8 (by decide)) (fun c => ?_) (fun c => ?_)
  · rw [if_pos c] at e
    refine xw_psh (v := (.int (0))) (show xm_Imp g Γ 15 (xi_psh (.int (0)) 16) from xs_iconst hΓ dX6_gate_15 (by decide)) ?_
    exact hB_16 _ _ _ _ _ _ _ _ e
  · rw [if_neg c] at e
    refine xw_psh (v := (.int (1))) (show xm_Imp g Γ 11 (xi_psh (.int (1)) 12) from xs_iconst hΓ dX6_gate_11 (by decide)) ?_
    refine xw_goto (show xm_Imp g Γ 12 (xi_goto 16) from xs_goto hΓ dX6_gate_12 (by decide)) ?_
    exact hB_16 _ _ _ _ _ _ _ _ e
noncomputable def B_X6_operation_106 (g : xm_G) (l0 : Nat) (l2 : Int32) (h : xm_H) (bc : Nat) (bs : Nat) (Q : xm_H → Prop) (X : xm_X) : Prop :=
 xt_b (xh_is 5 h l0) (fun _ =>
 xt_c bc bs (fun m28 m29 => F_X6_gate g l0 l2 h m28 m29 (fun h30 =>
 Q h30) X))
noncomputable def B_X6_operation_64 (g : xm_G) (l0 : Nat) (s0 : Option Nat) (s1 : Int32) (h : xm_H) (bc : Nat) (bs : Nat) (Q : xm_H → Prop) (X : xm_X) : Prop :=
 xt_b s0 (fun a15 =>
 xt_b (xh_is 5 h a15) (fun _ =>
 xt_c bc bs (fun m16 m17 => F_X6_require g a15 s1 4 h m16 m17 (fun h18 =>
 xt_b (xh_is 5 h18 l0) (fun _ =>
 xt_c (bc - m16) (bs - m17) (fun m20 m21 => F_X6_accept g l0 (some (xm_sa g "StringTableau$Parser" 178)) h18 m20 m21 (fun v23 h22 =>
 (if v23 = 0 then
 xt_b (xh_is 5 h22 l0) (fun _ =>
 xt_c ((bc - m16) - m20) ((bs - m17) - m21) (fun m24 m25 => F_X6_accept g l0 (some (xm_sa g "StringTableau$Parser" 176)) h22 m24 m25 (fun v27 h26 =>
 (if v27 = 0 then
 B_X6_operation_106 g l0 (-1) h26 (((bc - m16) - m20) - m24) (((bs - m17) - m21) - m25) Q X else
 xt_b (xh_fi [(5, 7)] h26 l0) (fun v32 =>
 xt_b (xh_is 5 h26 l0) (fun _ =>
 xt_c (((bc - m16) - m20) - m24) (((bs - m17) - m21) - m25) (fun m33 m34 => F_X6_number g l0 0 (v32 - 1) 3 h26 m33 m34 (fun v36 h35 =>
 B_X6_operation_106 g l0 v36 h35 ((((bc - m16) - m20) - m24) - m33) ((((bs - m17) - m21) - m25) - m34) Q X) X))))))) else
 xt_b (xh_is 5 h22 l0) (fun _ =>
 xt_c ((bc - m16) - m20) ((bs - m17) - m21) (fun m37 m38 => F_X6_measure g l0 h22 m37 m38 (fun h39 =>
 Q h39) X))))))) X)))
noncomputable def B_X6_operation_37 (g : xm_G) (l0 : Nat) (s0 : Int32) (h : xm_H) (bc : Nat) (bs : Nat) (Q : xm_H → Prop) (X : xm_X) : Prop :=
 xt_b (xh_is 5 h l0) (fun _ =>
 xt_c bc bs (fun m8 m9 => F_X6_require g l0 s0 1 h m8 m9 (fun h10 =>
 xt_b (xh_fr [(5, 0)] h10 l0) (fun v12 =>
 xt_b v12 (fun a13 =>
 xt_b (xh_is 12 h10 a13) (fun _ =>
 xt_b (F_J2_size g a13 h10) (fun v14 =>
 B_X6_operation_64 g l0 (some l0) (if (60 : Int32) ≤ v14 then 0 else 1) h10 (bc - m8) (bs - m9) Q X))))) X))
noncomputable def B_X6_operation_32 (g : xm_G) (l0 : Nat) (h : xm_H) (bc : Nat) (bs : Nat) (Q : xm_H → Prop) (X : xm_X) : Prop :=
 B_X6_operation_37 g l0 1 h bc bs Q X
noncomputable def F_X6_operation (g : xm_G) (p0 : Nat) (h : xm_H) (bc : Nat) (bs : Nat) (Q : xm_H → Prop) (X : xm_X) : Prop :=
 xt_b (xh_fr [(5, 9)] h p0) (fun v1 =>
 xt_b v1 (fun a2 =>
 xt_b (xh_is 15 h a2) (fun _ =>
 xt_b (F_J6_equals g a2 (some (xm_sa g "StringTableau$Parser" 176)) h) (fun v3 =>
 (if v3 = 0 then
 xt_b (xh_fr [(5, 9)] h p0) (fun v4 =>
 xt_b v4 (fun a5 =>
 xt_b (xh_is 15 h a5) (fun _ =>
 xt_b (F_J6_equals g a5 (some (xm_sa g "StringTableau$Parser" 178)) h) (fun v6 =>
 (if v6 = 0 then
 xt_b (xh_is 5 h p0) (fun _ =>
 xt_b (F_X6_gateKind g p0 h) (fun v7 =>
 B_X6_operation_37 g p0 (if v7.1 = ((-1) : Int32) then 0 else 1) v7.2 bc bs Q X)) else
 B_X6_operation_32 g p0 h bc bs Q X))))) else
 B_X6_operation_32 g p0 h bc bs Q X)))))
set_option maxHeartbeats 4000000 in
theorem K_X6_operation {g : xm_G} (hG : xm_Gw g) (p0 : Nat) (h : xm_H) (bc : Nat) (bs : Nat) {Q : xm_H → Prop} {X : xm_X} (e : F_X6_operation g p0 h bc bs Q X) : xm_Run g M_X6_operation 24 [.ref p0] h bc bs (fun v h' => v = none ∧ Q h') X := by
  refine xm_Run.of pn_StringTableau_Parser (Nat.le_of_ble_eq_true rfl) (fun Γ hΓ => ?_)
  show xm_W g Γ 0 [some (.ref p0), none, none] [] h bc bs
  have hB_106 : ∀ (l0 : Nat) (l2 : Int32) (h : xm_H) (bc : Nat) (bs : Nat), B_X6_operation_106 g l0 l2 h bc bs Q X → xm_W g Γ 106 [some (.ref l0), none, some (.int l2)] [] h bc bs := by
    intro l0 l2 h bc bs e
    unfold B_X6_operation_106 at e
    refine xw_ald (show xm_Imp g Γ 106 (xi_ald 0 107) from xs_aload_n hΓ dX6_operation_106) rfl ?_
    refine xw_ild (show xm_Imp g Γ 107 (xi_ild 2 108) from xs_iload_n hΓ dX6_operation_107) rfl ?_
    obtain ⟨_, e0, e⟩ := e
    obtain ⟨m28, m29, ⟨em1, em2⟩, e⟩ := e
    refine xw_tXvu1 (o := (some l0)) (show xm_Imp g Γ 108 (xi_virX g 5 M_X6_gate 23 1 111 X) from xs_invVX hG hΓ k_X6_gate rfl rfl (ci := 5) rfl q1085 q1087 qs19 dX6_operation_108) rfl rfl e0 em1 em2 (K_X6_gate hG l0 l2 _ _ _ e) (fun h30 e => ?_)
    exact xw_vret (show xm_Imp g Γ 111 (xi_vret _) from xs_return hΓ rfl dX6_operation_111) ⟨rfl, e⟩
  have hB_64 : ∀ (l0 : Nat) (s0 : Option Nat) (s1 : Int32) (h : xm_H) (bc : Nat) (bs : Nat), B_X6_operation_64 g l0 s0 s1 h bc bs Q X → xm_W g Γ 64 [some (.ref l0), none, none] [.int s1, va_rf s0] h bc bs := by
    intro l0 s0 s1 h bc bs e
    unfold B_X6_operation_64 at e
    refine xw_psh (v := (.int (4))) (show xm_Imp g Γ 64 (xi_psh (.int (4)) 65) from xs_iconst hΓ dX6_operation_64 (by decide)) ?_
    obtain ⟨a15, ha15, e⟩ := e
    obtain ⟨_, e0, e⟩ := e
    obtain ⟨m16, m17, ⟨em1, em2⟩, e⟩ := e
    refine xw_tXvu2 (o := s0) (show xm_Imp g Γ 65 (xi_virX g 5 M_X6_require 8 2 68 X) from xs_invVX hG hΓ k_X6_require rfl rfl (ci := 5) rfl q774 q776 qs6 dX6_operation_65) (by simp [xm_stk, xv_cat, xc_int, xc_long, xc_float, xc_double, xc_ref]) ha15 e0 em1 em2 (K_X6_require hG a15 s1 4 _ _ _ e) (fun h18 e => ?_)
    refine xw_ald (show xm_Imp g Γ 68 (xi_ald 0 69) from xs_aload_n hΓ dX6_operation_68) rfl ?_
    refine xw_psh (v := (.ref (xm_sa g "StringTableau$Parser" 178))) (show xm_Imp g Γ 69 (xi_psh (.ref (xm_sa g "StringTableau$Parser" 178)) 71) from xs_ldS hG hΓ q824 dX6_operation_69) ?_
    obtain ⟨_, e0, e⟩ := e
    obtain ⟨m20, m21, ⟨em1, em2⟩, e⟩ := e
    refine xw_tvi1 (o := (some l0)) (show xm_Imp g Γ 71 (xi_vir g 5 M_X6_accept 21 1 74) from xs_invV hG hΓ k_X6_accept rfl (ci := 5) rfl q762 q764 qs5 dX6_operation_71) rfl rfl e0 em1 em2 (K_X6_accept hG l0 (some (xm_sa g "StringTableau$Parser" 178)) _ _ _ e) (fun v23 h22 e => ?_)
    refine xw_if (show xm_Imp g Γ 74 (xi_if (fun x => x = 0) 82 77) from xs_if_eq hΓ dX6_operation_74 (by decide)) (fun c => ?_) (fun c => ?_)
    · rw [if_pos c] at e
      refine xw_psh (v := (.int (-1))) (show xm_Imp g Γ 82 (xi_psh (.int (-1)) 83) from xs_iconst hΓ dX6_operation_82 (by decide)) ?_
      refine xw_ist (ls' := [some (.ref l0), none, some (.int (-1))]) (show xm_Imp g Γ 83 (xi_ist 2 84) from xs_istore_n hΓ dX6_operation_83 (Nat.le_of_ble_eq_true rfl)) rfl ?_
      refine xw_ald (show xm_Imp g Γ 84 (xi_ald 0 85) from xs_aload_n hΓ dX6_operation_84) rfl ?_
      refine xw_psh (v := (.ref (xm_sa g "StringTableau$Parser" 176))) (show xm_Imp g Γ 85 (xi_psh (.ref (xm_sa g "StringTableau$Parser" 176)) 87) from xs_ldS hG hΓ q823 dX6_operation_85) ?_
      obtain ⟨_, e0, e⟩ := e
      obtain ⟨m24, m25, ⟨em1, em2⟩, e⟩ := e
      refine xw_tvi1 (o := (some l0)) (show xm_Imp g Γ 87 (xi_vir g 5 M_X6_accept 21 1 90) from xs_invV hG hΓ k_X6_accept rfl (ci := 5) rfl q762 q764 qs5 dX6_operation_87) rfl rfl e0 em1 em2 (K_X6_accept hG l0 (some (xm_sa g "StringTableau$Parser" 176)) _ _ _ e) (fun v27 h26 e => ?_)
      refine xw_if (show xm_Imp g Γ 90 (xi_if (fun x => x = 0) 106 93) from xs_if_eq hΓ dX6_operation_90 (by decide)) (fun c => ?_) (fun c => ?_)
      · rw [if_pos c] at e
        exact hB_106 _ _ _ _ _ e
      · rw [if_neg c] at e
        refine xw_ald (show xm_Imp g Γ 93 (xi_ald 0 94) from xs_aload_n hΓ dX6_operation_93) rfl ?_
        refine xw_psh (v := (.int (0))) (show xm_Imp g Γ 94 (xi_psh (.int (0)) 95) from xs_iconst hΓ dX6_operation_94 (by decide)) ?_
        refine xw_ald (show xm_Imp g Γ 95 (xi_ald 0 96) from xs_aload_n hΓ dX6_operation_95) rfl ?_
        obtain ⟨v32, e1, e⟩ := e
        refine xw_gi1 (o := (some l0)) (show xm_Imp g Γ 96 (xi_get 5 7 99) from xs_get hG hΓ (ci := 5) (kf := 7) rfl (Nat.le_of_ble_eq_true rfl) q730 dX6_operation_96) rfl e1 ?_
        refine xw_psh (v := (.int (1))) (show xm_Imp g Γ 99 (xi_psh (.int (1)) 100) from xs_iconst hΓ dX6_operation_99 (by decide)) ?_
        refine xw_ii (show xm_Imp g Γ 100 (xi_ii (fun x y => x - y) 101) from xs_isub hΓ dX6_operation_100) ?_
        refine xw_psh (v := (.int (3))) (show xm_Imp g Γ 101 (xi_psh (.int (3)) 102) from xs_iconst hΓ dX6_operation_101 (by decide)) ?_
        obtain ⟨_, e0, e⟩ := e
        obtain ⟨m33, m34, ⟨em1, em2⟩, e⟩ := e
        refine xw_tXvi3 (o := (some l0)) (show xm_Imp g Γ 102 (xi_virX g 5 M_X6_number 21 3 105 X) from xs_invVX hG hΓ k_X6_number rfl rfl (ci := 5) rfl q806 q808 qs7 dX6_operation_102) rfl rfl e0 em1 em2 (K_X6_number hG l0 0 (v32 - 1) 3 _ _ _ e) (fun v36 h35 e => ?_)
        refine xw_ist (ls' := [some (.ref l0), none, some (.int v36)]) (show xm_Imp g Γ 105 (xi_ist 2 106) from xs_istore_n hΓ dX6_operation_105 (Nat.le_of_ble_eq_true rfl)) rfl ?_
        exact hB_106 _ _ _ _ _ e
    · rw [if_neg c] at e
      refine xw_ald (show xm_Imp g Γ 77 (xi_ald 0 78) from xs_aload_n hΓ dX6_operation_77) rfl ?_
      obtain ⟨_, e0, e⟩ := e
      obtain ⟨m37, m38, ⟨em1, em2⟩, e⟩ := e
      refine xw_tXvu0 (o := (some l0)) (show xm_Imp g Γ 78 (xi_virX g 5 M_X6_measure 22 0 81 X) from xs_invVX hG hΓ k_X6_measure rfl rfl (ci := 5) rfl q909 q911 qs12 dX6_operation_78) rfl rfl e0 em1 em2 (K_X6_measure hG l0 _ _ _ e) (fun h39 e => ?_)
      exact xw_vret (show xm_Imp g Γ 81 (xi_vret _) from xs_return hΓ rfl dX6_operation_81) ⟨rfl, e⟩
  have hB_37 : ∀ (l0 : Nat) (s0 : Int32) (h : xm_H) (bc : Nat) (bs : Nat), B_X6_operation_37 g l0 s0 h bc bs Q X → xm_W g Γ 37 [some (.ref l0), none, none] [.int s0] h bc bs := by
    intro l0 s0 h bc bs e
    unfold B_X6_operation_37 at e
    refine xw_ist (ls' := [some (.ref l0), some (.int s0), none]) (show xm_Imp g Γ 37 (xi_ist 1 38) from xs_istore_n hΓ dX6_operation_37 (Nat.le_of_ble_eq_true rfl)) rfl ?_
    refine xw_ald (show xm_Imp g Γ 38 (xi_ald 0 39) from xs_aload_n hΓ dX6_operation_38) rfl ?_
    refine xw_ild (show xm_Imp g Γ 39 (xi_ild 1 40) from xs_iload_n hΓ dX6_operation_39) rfl ?_
    refine xw_psh (v := (.int (1))) (show xm_Imp g Γ 40 (xi_psh (.int (1)) 41) from xs_iconst hΓ dX6_operation_40 (by decide)) ?_
    obtain ⟨_, e0, e⟩ := e
    obtain ⟨m8, m9, ⟨em1, em2⟩, e⟩ := e
    refine xw_tXvu2 (o := (some l0)) (show xm_Imp g Γ 41 (xi_virX g 5 M_X6_require 8 2 44 X) from xs_invVX hG hΓ k_X6_require rfl rfl (ci := 5) rfl q774 q776 qs6 dX6_operation_41) rfl rfl e0 em1 em2 (K_X6_require hG l0 s0 1 _ _ _ e) (fun h10 e => ?_)
    refine xw_ald (show xm_Imp g Γ 44 (xi_ald 0 45) from xs_aload_n hΓ dX6_operation_44) rfl ?_
    refine xw_ald (show xm_Imp g Γ 45 (xi_ald 0 46) from xs_aload_n hΓ dX6_operation_45) rfl ?_
    obtain ⟨v12, e1, e⟩ := e
    refine xw_gr1 (o := (some l0)) (show xm_Imp g Γ 46 (xi_get 5 0 49) from xs_get hG hΓ (ci := 5) (kf := 0) rfl (Nat.le_of_ble_eq_true rfl) q722 dX6_operation_46) rfl e1 ?_
    obtain ⟨a13, ha13, e⟩ := e
    obtain ⟨_, e0, e⟩ := e
    obtain ⟨v14, e1, e⟩ := e
    refine xw_hv0 (o := v12) (show xm_Imp g Γ 49 (xi_vir g 12 M_J2_size 1 0 54) from xs_invF hG hΓ k_J2_size rfl (ci := 12) rfl q900 q906 q904 ⟨by decide, by decide⟩ (by decide +kernel) q902 q901 q907 q905 q903 dX6_operation_49) (by simp [xm_stk, xv_cat, xc_int, xc_long, xc_float, xc_double, xc_ref]) ha13 e0 (fun Q X hQ => K_J2_size hG a13 _ e1 hQ) ?_
    refine xw_psh (v := (.int (60))) (show xm_Imp g Γ 54 (xi_psh (.int (60)) 56) from xs_bipush hΓ dX6_operation_54 (by decide)) ?_
    refine xw_ic (show xm_Imp g Γ 56 (xi_ic (fun x y => y ≤ x) 63 59) from xs_icmp_ge hΓ dX6_operation_56 (by decide)) (fun c => ?_) (fun c => ?_)
    · rw [if_pos c] at e
      refine xw_psh (v := (.int (0))) (show xm_Imp g Γ 63 (xi_psh (.int (0)) 64) from xs_iconst hΓ dX6_operation_63 (by decide)) ?_
      exact xm_lx (hB_64 _ _ _ _ _ _ e) (And.intro rfl (trivial))
    · rw [if_neg c] at e
      refine xw_psh (v := (.int (1))) (show xm_Imp g Γ 59 (xi_psh (.int (1)) 60) from xs_iconst hΓ dX6_operation_59 (by decide)) ?_
      refine xw_goto (show xm_Imp g Γ 60 (xi_goto 64) from xs_goto hΓ dX6_operation_60 (by decide)) ?_
      exact xm_lx (hB_64 _ _ _ _ _ _ e) (And.intro rfl (trivial))
  have hB_32 : ∀ (l0 : Nat) (h : xm_H) (bc : Nat) (bs : Nat), B_X6_operation_32 g l0 h bc bs Q X → xm_W g Γ 32 [some (.ref l0), none, none] [] h bc bs := by
    intro l0 h bc bs e
    unfold B_X6_operation_32 at e
    refine xw_psh (v := (.int (1))) (show xm_Imp g Γ 32 (xi_psh (.int (1)) 33) from xs_iconst hΓ dX6_operation_32 (by decide)) ?_
    refine xw_goto (show xm_Imp g Γ 33 (xi_goto 37) from xs_goto hΓ dX6_operation_33 (by decide)) ?_
    exact hB_37 _ _ _ _ _ e
  unfold F_X6_operation at e
  refine xw_ald (show xm_Imp g Γ 0 (xi_ald 0 1) from xs_aload_n hΓ dX6_operation_0) rfl ?_
  obtain ⟨v1, e1, e⟩ := e
  refine xw_gr1 (o := (some p0)) (show xm_Imp g Γ 1 (xi_get 5 9 4) from xs_get hG hΓ (ci := 5) (kf := 9) rfl (Nat.le_of_ble_eq_true rfl) q732 dX6_operation_1) rfl e1 ?_
  refine xw_psh (v := (.ref (xm_sa g "StringTableau$Parser" 176))) (show xm_Imp g Γ 4 (xi_psh (.ref (xm_sa g "StringTableau$Parser" 176)) 6) from xs_ldS hG hΓ q823 dX6_operation_4) ?_
  obtain ⟨a2, ha2, e⟩ := e
  obtain ⟨_, e0, e⟩ := e
  obtain ⟨v3, e1, e⟩ := e
  refine xw_hv1 (o := v1) (show xm_Imp g Γ 6 (xi_vir g 15 M_J6_equals 2 1 9) from xs_invV hG hΓ k_J6_equals rfl (ci := 15) rfl q766 q767 q768 dX6_operation_6) (by simp [xm_stk, xv_cat, xc_int, xc_long, xc_float, xc_double, xc_ref]) ha2 e0 (fun Q X hQ => K_J6_equals hG a2 (some (xm_sa g "StringTableau$Parser" 176)) _ e1 hQ) ?_
  refine xw_if (show xm_Imp g Γ 9 (xi_if (fun x => x = 0) 12 32) from xs_if_ne hΓ dX6_operation_9 (by decide)) (fun c => ?_) (fun c => ?_)
  · rw [if_pos c] at e
    refine xw_ald (show xm_Imp g Γ 12 (xi_ald 0 13) from xs_aload_n hΓ dX6_operation_12) rfl ?_
    obtain ⟨v4, e1, e⟩ := e
    refine xw_gr1 (o := (some p0)) (show xm_Imp g Γ 13 (xi_get 5 9 16) from xs_get hG hΓ (ci := 5) (kf := 9) rfl (Nat.le_of_ble_eq_true rfl) q732 dX6_operation_13) rfl e1 ?_
    refine xw_psh (v := (.ref (xm_sa g "StringTableau$Parser" 178))) (show xm_Imp g Γ 16 (xi_psh (.ref (xm_sa g "StringTableau$Parser" 178)) 18) from xs_ldS hG hΓ q824 dX6_operation_16) ?_
    obtain ⟨a5, ha5, e⟩ := e
    obtain ⟨_, e0, e⟩ := e
    obtain ⟨v6, e1, e⟩ := e
    refine xw_hv1 (o := v4) (show xm_Imp g Γ 18 (xi_vir g 15 M_J6_equals 2 1 21) from xs_invV hG hΓ k_J6_equals rfl (ci := 15) rfl q766 q767 q768 dX6_operation_18) (by simp [xm_stk, xv_cat, xc_int, xc_long, xc_float, xc_double, xc_ref]) ha5 e0 (fun Q X hQ => K_J6_equals hG a5 (some (xm_sa g "StringTableau$Parser" 178)) _ e1 hQ) ?_
    refine xw_if (show xm_Imp g Γ 21 (xi_if (fun x => x = 0) 24 32) from xs_if_ne hΓ dX6_operation_21 (by decide)) (fun c => ?_) (fun c => ?_)
    · rw [if_pos c] at e
      refine xw_ald (show xm_Imp g Γ 24 (xi_ald 0 25) from xs_aload_n hΓ dX6_operation_24) rfl ?_
      obtain ⟨_, e0, e⟩ := e
      obtain ⟨v7, e1, e⟩ := e
      refine xw_hv0 (o := (some p0)) (show xm_Imp g Γ 25 (xi_vir g 5 M_X6_gateKind 22 0 28) from xs_invV hG hΓ k_X6_gateKind rfl (ci := 5) rfl q825 q827 qs11 dX6_operation_25) rfl rfl e0 (fun Q X hQ => K_X6_gateKind hG p0 _ e1 hQ) ?_
      refine xw_psh (v := (.int (-1))) (show xm_Imp g Γ 28 (xi_psh (.int (-1)) 29) from xs_iconst hΓ dX6_operation_28 (by decide)) ?_
      refine xw_ic (show xm_Imp g Γ 29 (xi_ic (fun x y => x = y) 36 32) from xs_icmp_eq hΓ dX6_operation_29 (by decide)) (fun c => ?_) (fun c => ?_)
      · rw [if_pos c] at e
        refine xw_psh (v := (.int (0))) (show xm_Imp g Γ 36 (xi_psh (.int (0)) 37) from xs_iconst hΓ dX6_operation_36 (by decide)) ?_
        exact hB_37 _ _ _ _ _ e
      · rw [if_neg c] at e
        refine xw_psh (v := (.int (1))) (show xm_Imp g Γ 32 (xi_psh (.int (1)) 33) from xs_iconst hΓ dX6_operation_32 (by decide)) ?_
        refine xw_goto (show xm_Imp g Γ 33 (xi_goto 37) from xs_goto hΓ dX6_operation_33 (by decide)) ?_
        exact hB_37 _ _ _ _ _ e
    · rw [if_neg c] at e
      exact hB_32 _ _ _ _ e
  · rw [if_neg c] at e
    exact hB_32 _ _ _ _ e
noncomputable def B_X6_statement_30 (g : xm_G) (l0 : Nat) (s0 : Option Nat) (s1 : Int32) (h : xm_H) (bc : Nat) (bs : Nat) (Q : xm_H → Prop) (X : xm_X) : Prop :=
 xt_b s0 (fun a9 =>
 xt_b (xh_is 5 h a9) (fun _ =>
 xt_c bc bs (fun m10 m11 => F_X6_require g a9 s1 3 h m10 m11 (fun h12 =>
 xt_b (xh_w [(5, 8)] h12 l0 (.int 1)) (fun h14 =>
 xt_b (xh_is 5 h14 l0) (fun _ =>
 xt_c (bc - m10) (bs - m11) (fun m15 m16 => F_X6_advance g l0 h14 m15 m16 (fun h17 =>
 xt_b (xh_is 5 h17 l0) (fun _ =>
 xt_c ((bc - m10) - m15) ((bs - m11) - m16) (fun m19 m20 => F_X6_number g l0 0 9999 2 h17 m19 m20 (fun v22 h21 =>
 xt_b (xh_w [(5, 6)] h21 l0 (.int v22)) (fun h23 =>
 Q h23)) X))))))) X)))
noncomputable def F_X6_statement (g : xm_G) (p0 : Nat) (h : xm_H) (bc : Nat) (bs : Nat) (Q : xm_H → Prop) (X : xm_X) : Prop :=
 xt_b (xh_fr [(5, 9)] h p0) (fun v1 =>
 xt_b v1 (fun a2 =>
 xt_b (xh_is 15 h a2) (fun _ =>
 xt_b (F_J6_equals g a2 (some (xm_sa g "StringTableau$Parser" 189)) h) (fun v3 =>
 (if v3 = 0 then
 xt_b (xh_is 5 h p0) (fun _ =>
 xt_c bc bs (fun m4 m5 => F_X6_operation g p0 h m4 m5 (fun h6 =>
 Q h6) X)) else
 xt_b (xh_fi [(5, 8)] h p0) (fun v8 =>
 B_X6_statement_30 g p0 (some p0) (if v8 = 0 then 1 else 0) h bc bs Q X))))))
set_option maxHeartbeats 4000000 in
theorem K_X6_statement {g : xm_G} (hG : xm_Gw g) (p0 : Nat) (h : xm_H) (bc : Nat) (bs : Nat) {Q : xm_H → Prop} {X : xm_X} (e : F_X6_statement g p0 h bc bs Q X) : xm_Run g M_X6_statement 25 [.ref p0] h bc bs (fun v h' => v = none ∧ Q h') X := by
  refine xm_Run.of pn_StringTableau_Parser (Nat.le_of_ble_eq_true rfl) (fun Γ hΓ => ?_)
  show xm_W g Γ 0 [some (.ref p0)] [] h bc bs
  have hB_30 : ∀ (l0 : Nat) (s0 : Option Nat) (s1 : Int32) (h : xm_H) (bc : Nat) (bs : Nat), B_X6_statement_30 g l0 s0 s1 h bc bs Q X → xm_W g Γ 30 [some (.ref l0)] [.int s1, va_rf s0] h bc bs := by
    intro l0 s0 s1 h bc bs e
    unfold B_X6_statement_30 at e
    refine xw_psh (v := (.int (3))) (show xm_Imp g Γ 30 (xi_psh (.int (3)) 31) from xs_iconst hΓ dX6_statement_30 (by decide)) ?_
    obtain ⟨a9, ha9, e⟩ := e
    obtain ⟨_, e0, e⟩ := e
    obtain ⟨m10, m11, ⟨em1, em2⟩, e⟩ := e
    refine xw_tXvu2 (o := s0) (show xm_Imp g Γ 31 (xi_virX g 5 M_X6_require 8 2 34 X) from xs_invVX hG hΓ k_X6_require rfl rfl (ci := 5) rfl q774 q776 qs6 dX6_statement_31) (by simp [xm_stk, xv_cat, xc_int, xc_long, xc_float, xc_double, xc_ref]) ha9 e0 em1 em2 (K_X6_require hG a9 s1 3 _ _ _ e) (fun h12 e => ?_)
    refine xw_ald (show xm_Imp g Γ 34 (xi_ald 0 35) from xs_aload_n hΓ dX6_statement_34) rfl ?_
    refine xw_psh (v := (.int (1))) (show xm_Imp g Γ 35 (xi_psh (.int (1)) 36) from xs_iconst hΓ dX6_statement_35 (by decide)) ?_
    obtain ⟨h14, e1, e⟩ := e
    refine xw_pt1 (o := (some l0)) (show xm_Imp g Γ 36 (xi_put 5 8 (.boolean) 39) from xs_put hG hΓ (ci := 5) (kf := 8) rfl (Nat.le_of_ble_eq_true rfl) rfl (by decide +kernel) q731 dX6_statement_36) rfl ⟨rfl, rfl⟩ e1 ?_
    refine xw_ald (show xm_Imp g Γ 39 (xi_ald 0 40) from xs_aload_n hΓ dX6_statement_39) rfl ?_
    obtain ⟨_, e0, e⟩ := e
    obtain ⟨m15, m16, ⟨em1, em2⟩, e⟩ := e
    refine xw_tvu0 (o := (some l0)) (show xm_Imp g Γ 40 (xi_vir g 5 M_X6_advance 20 0 43) from xs_invV hG hΓ k_X6_advance rfl (ci := 5) rfl q404 q406 qs1 dX6_statement_40) rfl rfl e0 em1 em2 (K_X6_advance hG l0 _ _ _ e) (fun h17 e => ?_)
    refine xw_ald (show xm_Imp g Γ 43 (xi_ald 0 44) from xs_aload_n hΓ dX6_statement_43) rfl ?_
    refine xw_ald (show xm_Imp g Γ 44 (xi_ald 0 45) from xs_aload_n hΓ dX6_statement_44) rfl ?_
    refine xw_psh (v := (.int (0))) (show xm_Imp g Γ 45 (xi_psh (.int (0)) 46) from xs_iconst hΓ dX6_statement_45 (by decide)) ?_
    refine xw_psh (v := (.int (9999))) (show xm_Imp g Γ 46 (xi_psh (.int (9999)) 49) from xs_sipush hΓ dX6_statement_46 (by decide)) ?_
    refine xw_psh (v := (.int (2))) (show xm_Imp g Γ 49 (xi_psh (.int (2)) 50) from xs_iconst hΓ dX6_statement_49 (by decide)) ?_
    obtain ⟨_, e0, e⟩ := e
    obtain ⟨m19, m20, ⟨em1, em2⟩, e⟩ := e
    refine xw_tXvi3 (o := (some l0)) (show xm_Imp g Γ 50 (xi_virX g 5 M_X6_number 21 3 53 X) from xs_invVX hG hΓ k_X6_number rfl rfl (ci := 5) rfl q806 q808 qs7 dX6_statement_50) rfl rfl e0 em1 em2 (K_X6_number hG l0 0 9999 2 _ _ _ e) (fun v22 h21 e => ?_)
    obtain ⟨h23, e1, e⟩ := e
    refine xw_pt1 (o := (some l0)) (show xm_Imp g Γ 53 (xi_put 5 6 (.int) 56) from xs_put hG hΓ (ci := 5) (kf := 6) rfl (Nat.le_of_ble_eq_true rfl) rfl (by decide +kernel) q729 dX6_statement_53) rfl (xf_int _) e1 ?_
    exact xw_vret (show xm_Imp g Γ 56 (xi_vret _) from xs_return hΓ rfl dX6_statement_56) ⟨rfl, e⟩
  unfold F_X6_statement at e
  refine xw_ald (show xm_Imp g Γ 0 (xi_ald 0 1) from xs_aload_n hΓ dX6_statement_0) rfl ?_
  obtain ⟨v1, e1, e⟩ := e
  refine xw_gr1 (o := (some p0)) (show xm_Imp g Γ 1 (xi_get 5 9 4) from xs_get hG hΓ (ci := 5) (kf := 9) rfl (Nat.le_of_ble_eq_true rfl) q732 dX6_statement_1) rfl e1 ?_
  refine xw_psh (v := (.ref (xm_sa g "StringTableau$Parser" 189))) (show xm_Imp g Γ 4 (xi_psh (.ref (xm_sa g "StringTableau$Parser" 189)) 6) from xs_ldS hG hΓ q818 dX6_statement_4) ?_
  obtain ⟨a2, ha2, e⟩ := e
  obtain ⟨_, e0, e⟩ := e
  obtain ⟨v3, e1, e⟩ := e
  refine xw_hv1 (o := v1) (show xm_Imp g Γ 6 (xi_vir g 15 M_J6_equals 2 1 9) from xs_invV hG hΓ k_J6_equals rfl (ci := 15) rfl q766 q767 q768 dX6_statement_6) (by simp [xm_stk, xv_cat, xc_int, xc_long, xc_float, xc_double, xc_ref]) ha2 e0 (fun Q X hQ => K_J6_equals hG a2 (some (xm_sa g "StringTableau$Parser" 189)) _ e1 hQ) ?_
  refine xw_if (show xm_Imp g Γ 9 (xi_if (fun x => x = 0) 12 17) from xs_if_ne hΓ dX6_statement_9 (by decide)) (fun c => ?_) (fun c => ?_)
  · rw [if_pos c] at e
    refine xw_ald (show xm_Imp g Γ 12 (xi_ald 0 13) from xs_aload_n hΓ dX6_statement_12) rfl ?_
    obtain ⟨_, e0, e⟩ := e
    obtain ⟨m4, m5, ⟨em1, em2⟩, e⟩ := e
    refine xw_tXvu0 (o := (some p0)) (show xm_Imp g Γ 13 (xi_virX g 5 M_X6_operation 24 0 16 X) from xs_invVX hG hΓ k_X6_operation rfl rfl (ci := 5) rfl q819 q821 qs10 dX6_statement_13) rfl rfl e0 em1 em2 (K_X6_operation hG p0 _ _ _ e) (fun h6 e => ?_)
    exact xw_vret (show xm_Imp g Γ 16 (xi_vret _) from xs_return hΓ rfl dX6_statement_16) ⟨rfl, e⟩
  · rw [if_neg c] at e
    refine xw_ald (show xm_Imp g Γ 17 (xi_ald 0 18) from xs_aload_n hΓ dX6_statement_17) rfl ?_
    refine xw_ald (show xm_Imp g Γ 18 (xi_ald 0 19) from xs_aload_n hΓ dX6_statement_18) rfl ?_
    obtain ⟨v8, e1, e⟩ := e
    refine xw_gi1 (o := (some p0)) (show xm_Imp g Γ 19 (xi_get 5 8 22) from xs_get hG hΓ (ci := 5) (kf := 8) rfl (Nat.le_of_ble_eq_true rfl) q731 dX6_statement_19) rfl e1 ?_
    refine xw_if (show xm_Imp g Γ 22 (xi_if (fun x => x = 0) 25 29) from xs_if_ne hΓ dX6_statement_22 (by decide)) (fun c => ?_) (fun c => ?_)
    · rw [if_pos c] at e
      refine xw_psh (v := (.int (1))) (show xm_Imp g Γ 25 (xi_psh (.int (1)) 26) from xs_iconst hΓ dX6_statement_25 (by decide)) ?_
      refine xw_goto (show xm_Imp g Γ 26 (xi_goto 30) from xs_goto hΓ dX6_statement_26 (by decide)) ?_
      exact hB_30 _ _ _ _ _ _ e
    · rw [if_neg c] at e
      refine xw_psh (v := (.int (0))) (show xm_Imp g Γ 29 (xi_psh (.int (0)) 30) from xs_iconst hΓ dX6_statement_29 (by decide)) ?_
      exact hB_30 _ _ _ _ _ _ e
noncomputable def D_X6_parse_29 (g : xm_G) (l0 : Nat) (Q : Option Nat → xm_H → Prop) (X : xm_X) (k29 : xm_H × Nat × Nat → Prop) (s : xm_H × Nat × Nat) : Prop :=
 xt_b (xh_fi [(5, 3)] s.1 l0) (fun v18 =>
 (if v18 = 0 then
 xt_new s.1 s.2.1 s.2.2 7 (.inr (1, [.null, .null, .null, .null, .int 0, .int 0, .int 0])) (fun a19 h20 b21 b22 =>
 xt_b (xh_fi [(5, 5)] h20 l0) (fun v23 =>
 xt_b (xh_fi [(5, 6)] h20 l0) (fun v24 =>
 xt_c b21 b22 (fun m25 m26 => F_X2_init g a19 v23 v24 h20 m25 m26 (fun h27 =>
 Q (some a19) h27))))) else
 xt_b (xh_is 5 s.1 l0) (fun _ =>
 xt_c s.2.1 s.2.2 (fun m29 m30 => F_X6_statement g l0 s.1 m29 m30 (fun h31 =>
 xt_b (xh_is 5 h31 l0) (fun _ =>
 xt_c (s.2.1 - m29) (s.2.2 - m30) (fun m33 m34 => F_X6_end g l0 h31 m33 m34 (fun h35 =>
 k29 (h35, ((s.2.1 - m29) - m33), ((s.2.2 - m30) - m34))) X))) X))))
noncomputable def L_X6_parse_29 (g : xm_G) (l0 : Nat) (Q : Option Nat → xm_H → Prop) (X : xm_X) (s : xm_H × Nat × Nat) : Prop := xt_loop (D_X6_parse_29 g l0 Q X) s
noncomputable def F_X6_parse (g : xm_G) (p0 : Nat) (h : xm_H) (bc : Nat) (bs : Nat) (Q : Option Nat → xm_H → Prop) (X : xm_X) : Prop :=
 xt_b (xh_is 5 h p0) (fun _ =>
 xt_c bc bs (fun m1 m2 => F_X6_accept g p0 (some (xm_sa g "StringTableau$Parser" 200)) h m1 m2 (fun v4 h3 =>
 xt_b (xh_is 5 h3 p0) (fun _ =>
 xt_c (bc - m1) (bs - m2) (fun m5 m6 => F_X6_require g p0 v4 1 h3 m5 m6 (fun h7 =>
 xt_b (xh_is 5 h7 p0) (fun _ =>
 xt_c ((bc - m1) - m5) ((bs - m2) - m6) (fun m9 m10 => F_X6_number g p0 1 8 2 h7 m9 m10 (fun v12 h11 =>
 xt_b (xh_w [(5, 5)] h11 p0 (.int v12)) (fun h13 =>
 xt_b (xh_is 5 h13 p0) (fun _ =>
 xt_c (((bc - m1) - m5) - m9) (((bs - m2) - m6) - m10) (fun m14 m15 => F_X6_end g p0 h13 m14 m15 (fun h16 =>
 L_X6_parse_29 g p0 Q X (h16, ((((bc - m1) - m5) - m9) - m14), ((((bs - m2) - m6) - m10) - m15))) X)))) X))) X)))))
set_option maxHeartbeats 4000000 in
theorem K_X6_parse {g : xm_G} (hG : xm_Gw g) (p0 : Nat) (h : xm_H) (bc : Nat) (bs : Nat) {Q : Option Nat → xm_H → Prop} {X : xm_X} (e : F_X6_parse g p0 h bc bs Q X) : xm_Run g M_X6_parse 26 [.ref p0] h bc bs (fun v h' => ∃ r, v = some (va_rf r) ∧ Q r h') X := by
  refine xm_Run.of pn_StringTableau_Parser (Nat.le_of_ble_eq_true rfl) (fun Γ hΓ => ?_)
  show xm_W g Γ 0 [some (.ref p0), none] [] h bc bs
  have hL_29 : ∀ (l0 : Nat) (s : xm_H × Nat × Nat), L_X6_parse_29 g l0 Q X s → xm_W g Γ 29 [some (.ref l0), none] [] s.1 s.2.1 s.2.2 := by
    intro l0
    refine xt_rule (WS := fun s : xm_H × Nat × Nat => xm_W g Γ 29 [some (.ref l0), none] [] s.1 s.2.1 s.2.2) ?_
    intro k29 hk29 s e
    unfold D_X6_parse_29 at e
    refine xw_ald (show xm_Imp g Γ 29 (xi_ald 0 30) from xs_aload_n hΓ dX6_parse_29) rfl ?_
    obtain ⟨v18, e1, e⟩ := e
    refine xw_gi1 (o := (some l0)) (show xm_Imp g Γ 30 (xi_get 5 3 33) from xs_get hG hΓ (ci := 5) (kf := 3) rfl (Nat.le_of_ble_eq_true rfl) q726 dX6_parse_30) rfl e1 ?_
    refine xw_if (show xm_Imp g Γ 33 (xi_if (fun x => x = 0) 47 36) from xs_if_eq hΓ dX6_parse_33 (by decide)) (fun c => ?_) (fun c => ?_)
    · rw [if_pos c] at e
      refine xw_new (show xm_Imp g Γ 47 (xi_new 1 7 [.null, .null, .null, .null, .int 0, .int 0, .int 0] 50) from xs_new hG hΓ (ci := 1) rfl q1113 q182 q121 rfl tyX2 tyX2_ok (xm_df 7 (by decide +kernel)) dX6_parse_47) e (fun a19 h20 b21 b22 e => ?_)
      refine xw_dup (show xm_Imp g Γ 50 (xi_dup 51) from xs_dup hΓ dX6_parse_50) rfl ?_
      refine xw_ald (show xm_Imp g Γ 51 (xi_ald 0 52) from xs_aload_n hΓ dX6_parse_51) rfl ?_
      obtain ⟨v23, e1, e⟩ := e
      refine xw_gi1 (o := (some l0)) (show xm_Imp g Γ 52 (xi_get 5 5 55) from xs_get hG hΓ (ci := 5) (kf := 5) rfl (Nat.le_of_ble_eq_true rfl) q728 dX6_parse_52) rfl e1 ?_
      refine xw_ald (show xm_Imp g Γ 55 (xi_ald 0 56) from xs_aload_n hΓ dX6_parse_55) rfl ?_
      obtain ⟨v24, e1, e⟩ := e
      refine xw_gi1 (o := (some l0)) (show xm_Imp g Γ 56 (xi_get 5 6 59) from xs_get hG hΓ (ci := 5) (kf := 6) rfl (Nat.le_of_ble_eq_true rfl) q729 dX6_parse_56) rfl e1 ?_
      obtain ⟨m25, m26, ⟨em1, em2⟩, e⟩ := e
      refine xw_tpu2 (o := (some a19)) (show xm_Imp g Γ 59 (xi_spe g M_X2_init 5 2 62) from xs_invI hG hΓ k_X2_init rfl q1114 q184 rfl dX6_parse_59) rfl rfl em1 em2 (K_X2_init hG a19 v23 v24 _ _ _ e) (fun h27 e => ?_)
      exact xw_aret (show xm_Imp g Γ 62 (xi_aret _) from xs_areturn hΓ rfl (Or.inl ⟨_, rfl⟩) dX6_parse_62) ⟨_, rfl, e⟩
    · rw [if_neg c] at e
      refine xw_ald (show xm_Imp g Γ 36 (xi_ald 0 37) from xs_aload_n hΓ dX6_parse_36) rfl ?_
      obtain ⟨_, e0, e⟩ := e
      obtain ⟨m29, m30, ⟨em1, em2⟩, e⟩ := e
      refine xw_tXvu0 (o := (some l0)) (show xm_Imp g Γ 37 (xi_virX g 5 M_X6_statement 25 0 40 X) from xs_invVX hG hΓ k_X6_statement rfl rfl (ci := 5) rfl q814 q816 qs9 dX6_parse_37) rfl rfl e0 em1 em2 (K_X6_statement hG l0 _ _ _ e) (fun h31 e => ?_)
      refine xw_ald (show xm_Imp g Γ 40 (xi_ald 0 41) from xs_aload_n hΓ dX6_parse_40) rfl ?_
      obtain ⟨_, e0, e⟩ := e
      obtain ⟨m33, m34, ⟨em1, em2⟩, e⟩ := e
      refine xw_tXvu0 (o := (some l0)) (show xm_Imp g Γ 41 (xi_virX g 5 M_X6_end 21 0 44 X) from xs_invVX hG hΓ k_X6_end rfl rfl (ci := 5) rfl q810 q812 qs8 dX6_parse_41) rfl rfl e0 em1 em2 (K_X6_end hG l0 _ _ _ e) (fun h35 e => ?_)
      refine xw_goto (show xm_Imp g Γ 44 (xi_goto 29) from xs_goto hΓ dX6_parse_44 (by decide)) ?_
      have hq := hk29 _ e; exact hq
  unfold F_X6_parse at e
  refine xw_ald (show xm_Imp g Γ 0 (xi_ald 0 1) from xs_aload_n hΓ dX6_parse_0) rfl ?_
  refine xw_psh (v := (.ref (xm_sa g "StringTableau$Parser" 200))) (show xm_Imp g Γ 1 (xi_psh (.ref (xm_sa g "StringTableau$Parser" 200)) 3) from xs_ldS hG hΓ q761 dX6_parse_1) ?_
  obtain ⟨_, e0, e⟩ := e
  obtain ⟨m1, m2, ⟨em1, em2⟩, e⟩ := e
  refine xw_tvi1 (o := (some p0)) (show xm_Imp g Γ 3 (xi_vir g 5 M_X6_accept 21 1 6) from xs_invV hG hΓ k_X6_accept rfl (ci := 5) rfl q762 q764 qs5 dX6_parse_3) rfl rfl e0 em1 em2 (K_X6_accept hG p0 (some (xm_sa g "StringTableau$Parser" 200)) _ _ _ e) (fun v4 h3 e => ?_)
  refine xw_ist (ls' := [some (.ref p0), some (.int v4)]) (show xm_Imp g Γ 6 (xi_ist 1 7) from xs_istore_n hΓ dX6_parse_6 (Nat.le_of_ble_eq_true rfl)) rfl ?_
  refine xw_ald (show xm_Imp g Γ 7 (xi_ald 0 8) from xs_aload_n hΓ dX6_parse_7) rfl ?_
  refine xw_ild (show xm_Imp g Γ 8 (xi_ild 1 9) from xs_iload_n hΓ dX6_parse_8) rfl ?_
  refine xw_psh (v := (.int (1))) (show xm_Imp g Γ 9 (xi_psh (.int (1)) 10) from xs_iconst hΓ dX6_parse_9 (by decide)) ?_
  obtain ⟨_, e0, e⟩ := e
  obtain ⟨m5, m6, ⟨em1, em2⟩, e⟩ := e
  refine xw_tXvu2 (o := (some p0)) (show xm_Imp g Γ 10 (xi_virX g 5 M_X6_require 8 2 13 X) from xs_invVX hG hΓ k_X6_require rfl rfl (ci := 5) rfl q774 q776 qs6 dX6_parse_10) rfl rfl e0 em1 em2 (K_X6_require hG p0 v4 1 _ _ _ e) (fun h7 e => ?_)
  refine xw_ald (show xm_Imp g Γ 13 (xi_ald 0 14) from xs_aload_n hΓ dX6_parse_13) rfl ?_
  refine xw_ald (show xm_Imp g Γ 14 (xi_ald 0 15) from xs_aload_n hΓ dX6_parse_14) rfl ?_
  refine xw_psh (v := (.int (1))) (show xm_Imp g Γ 15 (xi_psh (.int (1)) 16) from xs_iconst hΓ dX6_parse_15 (by decide)) ?_
  refine xw_psh (v := (.int (8))) (show xm_Imp g Γ 16 (xi_psh (.int (8)) 18) from xs_bipush hΓ dX6_parse_16 (by decide)) ?_
  refine xw_psh (v := (.int (2))) (show xm_Imp g Γ 18 (xi_psh (.int (2)) 19) from xs_iconst hΓ dX6_parse_18 (by decide)) ?_
  obtain ⟨_, e0, e⟩ := e
  obtain ⟨m9, m10, ⟨em1, em2⟩, e⟩ := e
  refine xw_tXvi3 (o := (some p0)) (show xm_Imp g Γ 19 (xi_virX g 5 M_X6_number 21 3 22 X) from xs_invVX hG hΓ k_X6_number rfl rfl (ci := 5) rfl q806 q808 qs7 dX6_parse_19) rfl rfl e0 em1 em2 (K_X6_number hG p0 1 8 2 _ _ _ e) (fun v12 h11 e => ?_)
  obtain ⟨h13, e1, e⟩ := e
  refine xw_pt1 (o := (some p0)) (show xm_Imp g Γ 22 (xi_put 5 5 (.int) 25) from xs_put hG hΓ (ci := 5) (kf := 5) rfl (Nat.le_of_ble_eq_true rfl) rfl (by decide +kernel) q728 dX6_parse_22) rfl (xf_int _) e1 ?_
  refine xw_ald (show xm_Imp g Γ 25 (xi_ald 0 26) from xs_aload_n hΓ dX6_parse_25) rfl ?_
  obtain ⟨_, e0, e⟩ := e
  obtain ⟨m14, m15, ⟨em1, em2⟩, e⟩ := e
  refine xw_tXvu0 (o := (some p0)) (show xm_Imp g Γ 26 (xi_virX g 5 M_X6_end 21 0 29 X) from xs_invVX hG hΓ k_X6_end rfl rfl (ci := 5) rfl q810 q812 qs8 dX6_parse_26) rfl rfl e0 em1 em2 (K_X6_end hG p0 _ _ _ e) (fun h16 e => ?_)
  exact xm_lx (hL_29 _ _ e) (And.intro rfl (trivial))
noncomputable def F_X1_init (g : xm_G) (p0 : Nat) (h : xm_H) (bc : Nat) (bs : Nat) (Q : xm_H → Prop) : Prop :=
 xt_new h bc bs 7 (.inr (1, [.null, .null, .null, .null, .int 0, .int 0, .int 0])) (fun a1 h2 b3 b4 =>
 xt_c b3 b4 (fun m5 m6 => F_X2_init g a1 1 0 h2 m5 m6 (fun h7 =>
 xt_b (xh_w [(0, 0)] h7 p0 (.ref a1)) (fun h9 =>
 xt_new h9 (b3 - m5) (b4 - m6) 3 (.inr (12, [.int 0, .null, .int 0])) (fun a10 h11 b12 b13 =>
 xt_b (F_J2_init g a10 h11) (fun v14 =>
 xt_b (xh_w [(0, 1)] v14 p0 (.ref a10)) (fun h15 =>
 xt_new h15 b12 b13 3 (.inr (13, [.null, .int 0, .int 0])) (fun a16 h17 b18 b19 =>
 xt_c b18 b19 (fun m20 m21 => F_J3_init g a16 h17 m20 m21 (fun h22 =>
 xt_b (xh_w [(0, 2)] h22 p0 (.ref a16)) (fun h24 =>
 xt_b (xa_nat 2) (fun N29 =>
 xt_new h24 (b18 - m20) (b19 - m21) N29 (.inl (.object "StringTableau$Tableau", N29, .inr (.inr (.inr (.inr (fun _ => none)))))) (fun a25 h26 b27 b28 =>
 xt_b (xh_w [(0, 3)] h26 p0 (.ref a25)) (fun h30 =>
 xt_b (xa_nat 700) (fun N35 =>
 xt_new h30 b27 b28 N35 (.inl (.byte, N35, .inl (fun _ => 0))) (fun a31 h32 b33 b34 =>
 xt_b (xh_w [(0, 4)] h32 p0 (.ref a31)) (fun h36 =>
 xt_b (xh_w [(0, 7)] h36 p0 (.int (-1))) (fun h37 =>
 xt_new h37 b33 b34 4 (.inr (14, [.null, .int 0, .int 0, .int 0])) (fun a38 h39 b40 b41 =>
 xt_c b40 b41 (fun m42 m43 => F_J5_init g a38 h39 m42 m43 (fun h44 =>
 xt_b (xh_w [(0, 8)] h44 p0 (.ref a38)) (fun h46 =>
 Q h46))))))))))))))))))))))
set_option maxHeartbeats 4000000 in
theorem K_X1_init {g : xm_G} (hG : xm_Gw g) (p0 : Nat) (h : xm_H) (bc : Nat) (bs : Nat) {Q : xm_H → Prop} (e : F_X1_init g p0 h bc bs Q) : xm_Run g M_X1_init 6 [.ref p0] h bc bs (fun v h' => v = none ∧ Q h') xm_no := by
  refine xm_Run.of pn_StringTableau (Nat.le_of_ble_eq_true rfl) (fun Γ hΓ => ?_)
  show xm_W g Γ 0 [some (.ref p0)] [] h bc bs
  unfold F_X1_init at e
  refine xw_ald (show xm_Imp g Γ 0 (xi_ald 0 1) from xs_aload_n hΓ dX1_init_0) rfl ?_
  refine xw_obj (o := some p0) (show xm_Imp g Γ 1 (xi_obj 4) from xs_obj hG hΓ rfl q178 dX1_init_1) rfl rfl ?_
  refine xw_ald (show xm_Imp g Γ 4 (xi_ald 0 5) from xs_aload_n hΓ dX1_init_4) rfl ?_
  refine xw_new (show xm_Imp g Γ 5 (xi_new 1 7 [.null, .null, .null, .null, .int 0, .int 0, .int 0] 8) from xs_new hG hΓ (ci := 1) rfl q181 q182 q121 rfl tyX2 tyX2_ok (xm_df 7 (by decide +kernel)) dX1_init_5) e (fun a1 h2 b3 b4 e => ?_)
  refine xw_dup (show xm_Imp g Γ 8 (xi_dup 9) from xs_dup hΓ dX1_init_8) rfl ?_
  refine xw_psh (v := (.int (1))) (show xm_Imp g Γ 9 (xi_psh (.int (1)) 10) from xs_iconst hΓ dX1_init_9 (by decide)) ?_
  refine xw_psh (v := (.int (0))) (show xm_Imp g Γ 10 (xi_psh (.int (0)) 11) from xs_iconst hΓ dX1_init_10 (by decide)) ?_
  obtain ⟨m5, m6, ⟨em1, em2⟩, e⟩ := e
  refine xw_tpu2 (o := (some a1)) (show xm_Imp g Γ 11 (xi_spe g M_X2_init 5 2 14) from xs_invI hG hΓ k_X2_init rfl q183 q184 rfl dX1_init_11) rfl rfl em1 em2 (K_X2_init hG a1 1 0 _ _ _ e) (fun h7 e => ?_)
  obtain ⟨h9, e1, e⟩ := e
  refine xw_pt1 (o := (some p0)) (show xm_Imp g Γ 14 (xi_put 0 0 (.object "StringTableau$State") 17) from xs_put hG hΓ (ci := 0) (kf := 0) rfl (Nat.le_of_ble_eq_true rfl) rfl (by decide +kernel) q343 dX1_init_14) rfl (xv_fit (Or.inl ⟨_, rfl⟩) (some a1)) e1 ?_
  refine xw_ald (show xm_Imp g Γ 17 (xi_ald 0 18) from xs_aload_n hΓ dX1_init_17) rfl ?_
  refine xw_new (show xm_Imp g Γ 18 (xi_new 12 3 [.int 0, .null, .int 0] 21) from xs_new hG hΓ (ci := 12) rfl q304 q188 q124 rfl tyJ2 tyJ2_ok (xm_df 3 (by decide +kernel)) dX1_init_18) e (fun a10 h11 b12 b13 e => ?_)
  refine xw_dup (show xm_Imp g Γ 21 (xi_dup 22) from xs_dup hΓ dX1_init_21) rfl ?_
  obtain ⟨v14, e1, e⟩ := e
  refine xw_pu0 (o := (some a10)) (show xm_Imp g Γ 22 (xi_spe g M_J2_init 4 0 25) from xs_invI hG hΓ k_J2_init rfl q305 q190 rfl dX1_init_22) rfl rfl (fun Q X hQ => K_J2_init hG a10 _ e1 hQ) ?_
  obtain ⟨h15, e1, e⟩ := e
  refine xw_pt1 (o := (some p0)) (show xm_Imp g Γ 25 (xi_put 0 1 (.object "java/util/List") 28) from xs_put hG hΓ (ci := 0) (kf := 1) rfl (Nat.le_of_ble_eq_true rfl) rfl (by decide +kernel) q346 dX1_init_25) rfl (xv_fit (Or.inl ⟨_, rfl⟩) (some a10)) e1 ?_
  refine xw_ald (show xm_Imp g Γ 28 (xi_ald 0 29) from xs_aload_n hΓ dX1_init_28) rfl ?_
  refine xw_new (show xm_Imp g Γ 29 (xi_new 13 3 [.null, .int 0, .int 0] 32) from xs_new hG hΓ (ci := 13) rfl q306 q214 q125 rfl tyJ3 tyJ3_ok (xm_df 3 (by decide +kernel)) dX1_init_29) e (fun a16 h17 b18 b19 e => ?_)
  refine xw_dup (show xm_Imp g Γ 32 (xi_dup 33) from xs_dup hΓ dX1_init_32) rfl ?_
  obtain ⟨m20, m21, ⟨em1, em2⟩, e⟩ := e
  refine xw_tpu0 (o := (some a16)) (show xm_Imp g Γ 33 (xi_spe g M_J3_init 3 0 36) from xs_invI hG hΓ k_J3_init rfl q307 q216 rfl dX1_init_33) rfl rfl em1 em2 (K_J3_init hG a16 _ _ _ e) (fun h22 e => ?_)
  obtain ⟨h24, e1, e⟩ := e
  refine xw_pt1 (o := (some p0)) (show xm_Imp g Γ 36 (xi_put 0 2 (.object "java/util/ArrayDeque") 39) from xs_putF hG hΓ (ci := 0) (kf := 2) rfl (Nat.le_of_ble_eq_true rfl) rfl rfl rfl (by decide +kernel) q347 dX1_init_36) rfl (xv_fit (Or.inl ⟨_, rfl⟩) (some a16)) e1 ?_
  refine xw_ald (show xm_Imp g Γ 39 (xi_ald 0 40) from xs_aload_n hΓ dX1_init_39) rfl ?_
  refine xw_psh (v := (.int (2))) (show xm_Imp g Γ 40 (xi_psh (.int (2)) 41) from xs_iconst hΓ dX1_init_40 (by decide)) ?_
  obtain ⟨N29, e1, e⟩ := e
  refine xw_nra (show xm_Imp g Γ 41 (xi_nra "StringTableau$Tableau" 44) from xs_anew hG hΓ (by decide) q308 q309 dX1_init_41) e1 e (fun a25 h26 b27 b28 e => ?_)
  obtain ⟨h30, e1, e⟩ := e
  refine xw_pt1 (o := (some p0)) (show xm_Imp g Γ 44 (xi_put 0 3 (.array (.object "StringTableau$Tableau")) 47) from xs_putF hG hΓ (ci := 0) (kf := 3) rfl (Nat.le_of_ble_eq_true rfl) rfl rfl rfl (by decide +kernel) q348 dX1_init_44) rfl (xv_fit (Or.inr ⟨_, rfl⟩) (some a25)) e1 ?_
  refine xw_ald (show xm_Imp g Γ 47 (xi_ald 0 48) from xs_aload_n hΓ dX1_init_47) rfl ?_
  refine xw_psh (v := (.int (700))) (show xm_Imp g Γ 48 (xi_psh (.int (700)) 51) from xs_sipush hΓ dX1_init_48 (by decide)) ?_
  obtain ⟨N35, e1, e⟩ := e
  refine xw_neai (show xm_Imp g Γ 51 (xi_nea .byte xm_zi 53) from xs_newa (at0 := .byte) hG hΓ rfl (by decide) (by decide) xm_zi xm_zi_byte q342 dX1_init_51) e1 e (fun a31 h32 b33 b34 e => ?_)
  obtain ⟨h36, e1, e⟩ := e
  refine xw_pt1 (o := (some p0)) (show xm_Imp g Γ 53 (xi_put 0 4 (.array (.byte)) 56) from xs_putF hG hΓ (ci := 0) (kf := 4) rfl (Nat.le_of_ble_eq_true rfl) rfl rfl rfl (by decide +kernel) q349 dX1_init_53) rfl (xv_fit (Or.inr ⟨_, rfl⟩) (some a31)) e1 ?_
  refine xw_ald (show xm_Imp g Γ 56 (xi_ald 0 57) from xs_aload_n hΓ dX1_init_56) rfl ?_
  refine xw_psh (v := (.int (-1))) (show xm_Imp g Γ 57 (xi_psh (.int (-1)) 58) from xs_iconst hΓ dX1_init_57 (by decide)) ?_
  obtain ⟨h37, e1, e⟩ := e
  refine xw_pt1 (o := (some p0)) (show xm_Imp g Γ 58 (xi_put 0 7 (.int) 61) from xs_put hG hΓ (ci := 0) (kf := 7) rfl (Nat.le_of_ble_eq_true rfl) rfl (by decide +kernel) q354 dX1_init_58) rfl (xf_int _) e1 ?_
  refine xw_ald (show xm_Imp g Γ 61 (xi_ald 0 62) from xs_aload_n hΓ dX1_init_61) rfl ?_
  refine xw_new (show xm_Imp g Γ 62 (xi_new 14 4 [.null, .int 0, .int 0, .int 0] 65) from xs_new hG hΓ (ci := 14) rfl q310 q311 q129 rfl tyJ5 tyJ5_ok (xm_df 4 (by decide +kernel)) dX1_init_62) e (fun a38 h39 b40 b41 e => ?_)
  refine xw_dup (show xm_Imp g Γ 65 (xi_dup 66) from xs_dup hΓ dX1_init_65) rfl ?_
  obtain ⟨m42, m43, ⟨em1, em2⟩, e⟩ := e
  refine xw_tpu0 (o := (some a38)) (show xm_Imp g Γ 66 (xi_spe g M_J5_init 3 0 69) from xs_invI hG hΓ k_J5_init rfl q312 q313 rfl dX1_init_66) rfl rfl em1 em2 (K_J5_init hG a38 _ _ _ e) (fun h44 e => ?_)
  obtain ⟨h46, e1, e⟩ := e
  refine xw_pt1 (o := (some p0)) (show xm_Imp g Γ 69 (xi_put 0 8 (.object "java/lang/StringBuilder") 72) from xs_putF hG hΓ (ci := 0) (kf := 8) rfl (Nat.le_of_ble_eq_true rfl) rfl rfl rfl (by decide +kernel) q355 dX1_init_69) rfl (xv_fit (Or.inl ⟨_, rfl⟩) (some a38)) e1 ?_
  exact xw_vret (show xm_Imp g Γ 72 (xi_vret _) from xs_return hΓ rfl dX1_init_72) ⟨rfl, e⟩
noncomputable def D_X1_append_3 (g : xm_G) (l0 : Nat) (l1 : Int32) (s : Int32 × xm_H) : Option ((Int32 × xm_H) ⊕ (xm_H)) :=
 (if s.1 < 0 then
 xl_o (some s.2) else
 xo_b (xh_fr [(0, 4)] s.2 l0) (fun v1 =>
 xo_b (xh_fi [(0, 5)] s.2 l0) (fun v2 =>
 xo_b v1 (fun a3 =>
 xo_b (xh_si .byte s.2 a3 v2 (((ja_ushr l1 s.1).toInt8.toInt32).toInt8.toInt32)) (fun h4 =>
 xo_b (xh_fi [(0, 5)] h4 l0) (fun v5 =>
 xo_b (xh_w [(0, 5)] h4 l0 (.int (v5 + 1))) (fun h6 =>
 some (Sum.inl ((s.1 + (-8)), h6)))))))))
noncomputable def L_X1_append_3 (g : xm_G) (l0 : Nat) (l1 : Int32) (s : Int32 × xm_H) : Option (xm_H) := xl_loop (D_X1_append_3 g l0 l1) s
noncomputable def F_X1_append (g : xm_G) (p0 : Nat) (p1 : Int32) (h : xm_H) : Option (xm_H) :=
 L_X1_append_3 g p0 p1 (24, h)
set_option maxHeartbeats 4000000 in
theorem K_X1_append {g : xm_G} (hG : xm_Gw g) (p0 : Nat) (p1 : Int32) (h : xm_H) {o : xm_H} (e : F_X1_append g p0 p1 h = some o) {Q : xm_P} {X : xm_X} (hQ : Q none o) : xm_Run g M_X1_append 1 [.ref p0, .int p1] h 0 0 Q X := by
  refine xm_Run.of pn_StringTableau (Nat.le_of_ble_eq_true rfl) (fun Γ hΓ => ?_)
  obtain ⟨P0, hP0, hp⟩ : ∃ P : xm_H → Prop, (∀ o, P o → Q none o) ∧ P o := ⟨fun o => Q none o, fun _ h => h, hQ⟩
  clear hQ
  show xm_W g Γ 0 [some (.ref p0), some (.int p1), none] [] h 0 0
  have hL_3 : ∀ (l0 : Nat) (l1 : Int32) (s : Int32 × xm_H) (o : xm_H), L_X1_append_3 g l0 l1 s = some o → P0 o → xm_W g Γ 3 [some (.ref l0), some (.int l1), some (.int s.1)] [] s.2 0 0 := by
    intro l0 l1
    refine xl_rule (WS := fun s : Int32 × xm_H => xm_W g Γ 3 [some (.ref l0), some (.int l1), some (.int s.1)] [] s.2 0 0) ?_
    intro s o e hp
    obtain ⟨P1, hP1, hp⟩ : ∃ P : (Int32 × xm_H) ⊕ (xm_H) → Prop, (∀ o, P o → xl_P (fun s : Int32 × xm_H => xm_W g Γ 3 [some (.ref l0), some (.int l1), some (.int s.1)] [] s.2 0 0) P0 o) ∧ P o := ⟨_, fun _ h => h, hp⟩
    unfold D_X1_append_3 at e
    refine xw_ild (show xm_Imp g Γ 3 (xi_ild 2 4) from xs_iload_n hΓ dX1_append_3) rfl ?_
    refine xw_if (show xm_Imp g Γ 4 (xi_if (fun x => x < 0) 36 7) from xs_if_lt hΓ dX1_append_4 (by decide)) (fun c => ?_) (fun c => ?_)
    · rw [if_pos c] at e
      obtain ⟨_, e, hp⟩ := xl_o_s e (hP1 _ hp)
      exact xw_vret (show xm_Imp g Γ 36 (xi_vret _) from xs_return hΓ rfl dX1_append_36) (hP0 _ (xl_fin e hp))
    · rw [if_neg c] at e
      refine xw_ald (show xm_Imp g Γ 7 (xi_ald 0 8) from xs_aload_n hΓ dX1_append_7) rfl ?_
      obtain ⟨v1, e1, e⟩ := xo_b_s e
      refine xw_gr1 (o := (some l0)) (show xm_Imp g Γ 8 (xi_get 0 4 11) from xs_get hG hΓ (ci := 0) (kf := 4) rfl (Nat.le_of_ble_eq_true rfl) q349 dX1_append_8) rfl e1 ?_
      refine xw_ald (show xm_Imp g Γ 11 (xi_ald 0 12) from xs_aload_n hΓ dX1_append_11) rfl ?_
      obtain ⟨v2, e1, e⟩ := xo_b_s e
      refine xw_gi1 (o := (some l0)) (show xm_Imp g Γ 12 (xi_get 0 5 15) from xs_get hG hΓ (ci := 0) (kf := 5) rfl (Nat.le_of_ble_eq_true rfl) q352 dX1_append_12) rfl e1 ?_
      refine xw_ild (show xm_Imp g Γ 15 (xi_ild 1 16) from xs_iload_n hΓ dX1_append_15) rfl ?_
      refine xw_ild (show xm_Imp g Γ 16 (xi_ild 2 17) from xs_iload_n hΓ dX1_append_16) rfl ?_
      refine xw_ii (show xm_Imp g Γ 17 (xi_ii (fun x y => (x.toUInt32 >>> (y.toUInt32 &&& Int32.toUInt32 31)).toInt32) 18) from xs_iushr hΓ dX1_append_17) ?_
      refine xw_i1 (show xm_Imp g Γ 18 (xi_i1 (fun x => x.toInt8.toInt32) 19) from xs_i2b hΓ dX1_append_18) ?_
      obtain ⟨a3, ha3, e⟩ := xo_b_s e
      obtain ⟨h4, e1, e⟩ := xo_b_s e
      refine xw_hbas (o := v1) (show xm_Imp g Γ 19 (xi_bas 20) from xs_bas hG hΓ dX1_append_19) ha3 e1 ?_
      refine xw_ald (show xm_Imp g Γ 20 (xi_ald 0 21) from xs_aload_n hΓ dX1_append_20) rfl ?_
      refine xw_dup (show xm_Imp g Γ 21 (xi_dup 22) from xs_dup hΓ dX1_append_21) rfl ?_
      obtain ⟨v5, e1, e⟩ := xo_b_s e
      refine xw_gi1 (o := (some l0)) (show xm_Imp g Γ 22 (xi_get 0 5 25) from xs_get hG hΓ (ci := 0) (kf := 5) rfl (Nat.le_of_ble_eq_true rfl) q352 dX1_append_22) rfl e1 ?_
      refine xw_psh (v := (.int (1))) (show xm_Imp g Γ 25 (xi_psh (.int (1)) 26) from xs_iconst hΓ dX1_append_25 (by decide)) ?_
      refine xw_ii (show xm_Imp g Γ 26 (xi_ii (fun x y => x + y) 27) from xs_iadd hΓ dX1_append_26) ?_
      obtain ⟨h6, e1, e⟩ := xo_b_s e
      refine xw_pt1 (o := (some l0)) (show xm_Imp g Γ 27 (xi_put 0 5 (.int) 30) from xs_put hG hΓ (ci := 0) (kf := 5) rfl (Nat.le_of_ble_eq_true rfl) rfl (by decide +kernel) q352 dX1_append_27) rfl (xf_int _) e1 ?_
      refine xw_inc (v := (-8)) (ls' := [some (.ref l0), some (.int l1), some (.int (s.1 + (-8)))]) (show xm_Imp g Γ 30 (xi_inc 2 (-8) 33) from xs_iinc hΓ dX1_append_30 (by decide) (Nat.le_of_ble_eq_true rfl)) rfl rfl ?_
      refine xw_goto (show xm_Imp g Γ 33 (xi_goto 3) from xs_goto hΓ dX1_append_33 (by decide)) ?_
      have hq := xl_P_inl (hP1 _ (xl_fin e hp)); exact hq
  unfold F_X1_append at e
  refine xw_psh (v := (.int (24))) (show xm_Imp g Γ 0 (xi_psh (.int (24)) 2) from xs_bipush hΓ dX1_append_0 (by decide)) ?_
  refine xw_ist (ls' := [some (.ref p0), some (.int p1), some (.int 24)]) (show xm_Imp g Γ 2 (xi_ist 2 3) from xs_istore_n hΓ dX1_append_2 (Nat.le_of_ble_eq_true rfl)) rfl ?_
  exact hL_3 _ _ _ _ e hp
noncomputable def F_X1_feed (g : xm_G) (p0 : Nat) (p1 : Int32) (p2 : Int32) (p3 : Int32) (p4 : Int32) (p5 : Int32) (h : xm_H) : Option (Int32 × xm_H) :=
 xo_b (xh_fi [(0, 5)] h p0) (fun v1 =>
 (if (v1 + 20) ≤ (700 : Int32) then
 xo_b (xh_is 0 h p0) (fun _ =>
 xo_b (F_X1_append g p0 p1 h) (fun v2 =>
 xo_b (xh_is 0 v2 p0) (fun _ =>
 xo_b (F_X1_append g p0 p2 v2) (fun v3 =>
 xo_b (xh_is 0 v3 p0) (fun _ =>
 xo_b (F_X1_append g p0 p3 v3) (fun v4 =>
 xo_b (xh_is 0 v4 p0) (fun _ =>
 xo_b (F_X1_append g p0 p4 v4) (fun v5 =>
 xo_b (xh_is 0 v5 p0) (fun _ =>
 xo_b (F_X1_append g p0 p5 v5) (fun v6 =>
 xo_b (xh_fi [(0, 5)] v6 p0) (fun v7 =>
 some (v7, v6)))))))))))) else
 some ((-1), h)))
set_option maxHeartbeats 4000000 in
theorem K_X1_feed {g : xm_G} (hG : xm_Gw g) (p0 : Nat) (p1 : Int32) (p2 : Int32) (p3 : Int32) (p4 : Int32) (p5 : Int32) (h : xm_H) {o : Int32 × xm_H} (e : F_X1_feed g p0 p1 p2 p3 p4 p5 h = some o) {Q : xm_P} {X : xm_X} (hQ : Q (some (.int o.1)) o.2) : xm_Run g M_X1_feed 2 [.ref p0, .int p1, .int p2, .int p3, .int p4, .int p5] h 0 0 Q X := by
  refine xm_Run.of pn_StringTableau (Nat.le_of_ble_eq_true rfl) (fun Γ hΓ => ?_)
  obtain ⟨P0, hP0, hp⟩ : ∃ P : Int32 × xm_H → Prop, (∀ o, P o → Q (some (.int o.1)) o.2) ∧ P o := ⟨fun o => Q (some (.int o.1)) o.2, fun _ h => h, hQ⟩
  clear hQ
  show xm_W g Γ 0 [some (.ref p0), some (.int p1), some (.int p2), some (.int p3), some (.int p4), some (.int p5)] [] h 0 0
  unfold F_X1_feed at e
  refine xw_ald (show xm_Imp g Γ 0 (xi_ald 0 1) from xs_aload_n hΓ dX1_feed_0) rfl ?_
  obtain ⟨v1, e1, e⟩ := xo_b_s e
  refine xw_gi1 (o := (some p0)) (show xm_Imp g Γ 1 (xi_get 0 5 4) from xs_get hG hΓ (ci := 0) (kf := 5) rfl (Nat.le_of_ble_eq_true rfl) q352 dX1_feed_1) rfl e1 ?_
  refine xw_psh (v := (.int (20))) (show xm_Imp g Γ 4 (xi_psh (.int (20)) 6) from xs_bipush hΓ dX1_feed_4 (by decide)) ?_
  refine xw_ii (show xm_Imp g Γ 6 (xi_ii (fun x y => x + y) 7) from xs_iadd hΓ dX1_feed_6) ?_
  refine xw_psh (v := (.int (700))) (show xm_Imp g Γ 7 (xi_psh (.int (700)) 10) from xs_sipush hΓ dX1_feed_7 (by decide)) ?_
  refine xw_ic (show xm_Imp g Γ 10 (xi_ic (fun x y => x ≤ y) 15 13) from xs_icmp_le hΓ dX1_feed_10 (by decide)) (fun c => ?_) (fun c => ?_)
  · rw [if_pos c] at e
    refine xw_ald (show xm_Imp g Γ 15 (xi_ald 0 16) from xs_aload_n hΓ dX1_feed_15) rfl ?_
    refine xw_ild (show xm_Imp g Γ 16 (xi_ild 1 17) from xs_iload_n hΓ dX1_feed_16) rfl ?_
    obtain ⟨_, e0, e⟩ := xo_b_s e
    obtain ⟨v2, e1, e⟩ := xo_b_s e
    refine xw_hu1 (o := (some p0)) (show xm_Imp g Γ 17 (xi_vir g 0 M_X1_append 1 1 20) from xs_invV hG hΓ k_X1_append rfl (ci := 0) rfl q379 q381 qs0 dX1_feed_17) rfl rfl e0 (fun Q X hQ => K_X1_append hG p0 p1 _ e1 hQ) ?_
    refine xw_ald (show xm_Imp g Γ 20 (xi_ald 0 21) from xs_aload_n hΓ dX1_feed_20) rfl ?_
    refine xw_ild (show xm_Imp g Γ 21 (xi_ild 2 22) from xs_iload_n hΓ dX1_feed_21) rfl ?_
    obtain ⟨_, e0, e⟩ := xo_b_s e
    obtain ⟨v3, e1, e⟩ := xo_b_s e
    refine xw_hu1 (o := (some p0)) (show xm_Imp g Γ 22 (xi_vir g 0 M_X1_append 1 1 25) from xs_invV hG hΓ k_X1_append rfl (ci := 0) rfl q379 q381 qs0 dX1_feed_22) rfl rfl e0 (fun Q X hQ => K_X1_append hG p0 p2 _ e1 hQ) ?_
    refine xw_ald (show xm_Imp g Γ 25 (xi_ald 0 26) from xs_aload_n hΓ dX1_feed_25) rfl ?_
    refine xw_ild (show xm_Imp g Γ 26 (xi_ild 3 27) from xs_iload_n hΓ dX1_feed_26) rfl ?_
    obtain ⟨_, e0, e⟩ := xo_b_s e
    obtain ⟨v4, e1, e⟩ := xo_b_s e
    refine xw_hu1 (o := (some p0)) (show xm_Imp g Γ 27 (xi_vir g 0 M_X1_append 1 1 30) from xs_invV hG hΓ k_X1_append rfl (ci := 0) rfl q379 q381 qs0 dX1_feed_27) rfl rfl e0 (fun Q X hQ => K_X1_append hG p0 p3 _ e1 hQ) ?_
    refine xw_ald (show xm_Imp g Γ 30 (xi_ald 0 31) from xs_aload_n hΓ dX1_feed_30) rfl ?_
    refine xw_ild (show xm_Imp g Γ 31 (xi_ild 4 33) from xs_iload hΓ dX1_feed_31) rfl ?_
    obtain ⟨_, e0, e⟩ := xo_b_s e
    obtain ⟨v5, e1, e⟩ := xo_b_s e
    refine xw_hu1 (o := (some p0)) (show xm_Imp g Γ 33 (xi_vir g 0 M_X1_append 1 1 36) from xs_invV hG hΓ k_X1_append rfl (ci := 0) rfl q379 q381 qs0 dX1_feed_33) rfl rfl e0 (fun Q X hQ => K_X1_append hG p0 p4 _ e1 hQ) ?_
    refine xw_ald (show xm_Imp g Γ 36 (xi_ald 0 37) from xs_aload_n hΓ dX1_feed_36) rfl ?_
    refine xw_ild (show xm_Imp g Γ 37 (xi_ild 5 39) from xs_iload hΓ dX1_feed_37) rfl ?_
    obtain ⟨_, e0, e⟩ := xo_b_s e
    obtain ⟨v6, e1, e⟩ := xo_b_s e
    refine xw_hu1 (o := (some p0)) (show xm_Imp g Γ 39 (xi_vir g 0 M_X1_append 1 1 42) from xs_invV hG hΓ k_X1_append rfl (ci := 0) rfl q379 q381 qs0 dX1_feed_39) rfl rfl e0 (fun Q X hQ => K_X1_append hG p0 p5 _ e1 hQ) ?_
    refine xw_ald (show xm_Imp g Γ 42 (xi_ald 0 43) from xs_aload_n hΓ dX1_feed_42) rfl ?_
    obtain ⟨v7, e1, e⟩ := xo_b_s e
    refine xw_gi1 (o := (some p0)) (show xm_Imp g Γ 43 (xi_get 0 5 46) from xs_get hG hΓ (ci := 0) (kf := 5) rfl (Nat.le_of_ble_eq_true rfl) q352 dX1_feed_43) rfl e1 ?_
    have hq := hP0 _ (xl_fin e hp)
    exact xw_iret (show xm_Imp g Γ 46 (xi_iret .int _) from xs_ireturn hΓ rfl dX1_feed_46) (xn_int _) hq
  · rw [if_neg c] at e
    refine xw_psh (v := (.int (-1))) (show xm_Imp g Γ 13 (xi_psh (.int (-1)) 14) from xs_iconst hΓ dX1_feed_13 (by decide)) ?_
    have hq := hP0 _ (xl_fin e hp)
    exact xw_iret (show xm_Imp g Γ 14 (xi_iret .int _) from xs_ireturn hΓ rfl dX1_feed_14) (xn_int _) hq
noncomputable def F_X1_truncate (g : xm_G) (p0 : Nat) (p1 : Int32) (h : xm_H) : Option (Int32 × xm_H) :=
 xo_b (xh_fi [(0, 5)] h p0) (fun v1 =>
 (if (F_X1_inRange p1 0 v1) = 0 then
 some (0, h) else
 xo_b (xh_w [(0, 5)] h p0 (.int p1)) (fun h2 =>
 some (1, h2))))
set_option maxHeartbeats 4000000 in
theorem K_X1_truncate {g : xm_G} (hG : xm_Gw g) (p0 : Nat) (p1 : Int32) (h : xm_H) {o : Int32 × xm_H} (e : F_X1_truncate g p0 p1 h = some o) {Q : xm_P} {X : xm_X} (hQ : Q (some (.int o.1)) o.2) : xm_Run g M_X1_truncate 2 [.ref p0, .int p1] h 0 0 Q X := by
  refine xm_Run.of pn_StringTableau (Nat.le_of_ble_eq_true rfl) (fun Γ hΓ => ?_)
  obtain ⟨P0, hP0, hp⟩ : ∃ P : Int32 × xm_H → Prop, (∀ o, P o → Q (some (.int o.1)) o.2) ∧ P o := ⟨fun o => Q (some (.int o.1)) o.2, fun _ h => h, hQ⟩
  clear hQ
  show xm_W g Γ 0 [some (.ref p0), some (.int p1)] [] h 0 0
  unfold F_X1_truncate at e
  refine xw_ild (show xm_Imp g Γ 0 (xi_ild 1 1) from xs_iload_n hΓ dX1_truncate_0) rfl ?_
  refine xw_psh (v := (.int (0))) (show xm_Imp g Γ 1 (xi_psh (.int (0)) 2) from xs_iconst hΓ dX1_truncate_1 (by decide)) ?_
  refine xw_ald (show xm_Imp g Γ 2 (xi_ald 0 3) from xs_aload_n hΓ dX1_truncate_2) rfl ?_
  obtain ⟨v1, e1, e⟩ := xo_b_s e
  refine xw_gi1 (o := (some p0)) (show xm_Imp g Γ 3 (xi_get 0 5 6) from xs_get hG hΓ (ci := 0) (kf := 5) rfl (Nat.le_of_ble_eq_true rfl) q352 dX1_truncate_3) rfl e1 ?_
  refine xw_sv3 (show xm_Imp g Γ 6 (xi_inv g M_X1_inRange 1 3 9) from xs_invS hG hΓ k_X1_inRange rfl q387 q388 dX1_truncate_6) rfl (fun Q X hQ => K_X1_inRange hG p1 0 v1 rfl hQ) ?_
  refine xw_if (show xm_Imp g Γ 9 (xi_if (fun x => x = 0) 12 14) from xs_if_ne hΓ dX1_truncate_9 (by decide)) (fun c => ?_) (fun c => ?_)
  · rw [if_pos c] at e
    refine xw_psh (v := (.int (0))) (show xm_Imp g Γ 12 (xi_psh (.int (0)) 13) from xs_iconst hΓ dX1_truncate_12 (by decide)) ?_
    have hq := hP0 _ (xl_fin e hp)
    exact xw_iret (show xm_Imp g Γ 13 (xi_iret .boolean _) from xs_ireturn hΓ rfl dX1_truncate_13) rfl hq
  · rw [if_neg c] at e
    refine xw_ald (show xm_Imp g Γ 14 (xi_ald 0 15) from xs_aload_n hΓ dX1_truncate_14) rfl ?_
    refine xw_ild (show xm_Imp g Γ 15 (xi_ild 1 16) from xs_iload_n hΓ dX1_truncate_15) rfl ?_
    obtain ⟨h2, e1, e⟩ := xo_b_s e
    refine xw_pt1 (o := (some p0)) (show xm_Imp g Γ 16 (xi_put 0 5 (.int) 19) from xs_put hG hΓ (ci := 0) (kf := 5) rfl (Nat.le_of_ble_eq_true rfl) rfl (by decide +kernel) q352 dX1_truncate_16) rfl (xf_int _) e1 ?_
    refine xw_psh (v := (.int (1))) (show xm_Imp g Γ 19 (xi_psh (.int (1)) 20) from xs_iconst hΓ dX1_truncate_19 (by decide)) ?_
    have hq := hP0 _ (xl_fin e hp)
    exact xw_iret (show xm_Imp g Γ 20 (xi_iret .boolean _) from xs_ireturn hΓ rfl dX1_truncate_20) rfl hq
noncomputable def D_J10_fill_5 (g : xm_G) (l0 : Option Nat) (l1 : Option Nat) (l3 : Int32) (s : Int32 × xm_H) : Option ((Int32 × xm_H) ⊕ (xm_H)) :=
 (if l3 ≤ s.1 then
 xl_o (some s.2) else
 xo_b l0 (fun a3 =>
 xo_b (xh_sr "java/lang/Object" s.2 a3 s.1 l1) (fun h4 =>
 some (Sum.inl ((s.1 + 1), h4)))))
noncomputable def L_J10_fill_5 (g : xm_G) (l0 : Option Nat) (l1 : Option Nat) (l3 : Int32) (s : Int32 × xm_H) : Option (xm_H) := xl_loop (D_J10_fill_5 g l0 l1 l3) s
noncomputable def F_J10_fill (g : xm_G) (p0 : Option Nat) (p1 : Option Nat) (h : xm_H) : Option (xm_H) :=
 xo_b p0 (fun a1 =>
 xo_b (xh_len h a1) (fun v2 =>
 L_J10_fill_5 g p0 p1 v2 (0, h)))
set_option maxHeartbeats 4000000 in
theorem K_J10_fill {g : xm_G} (hG : xm_Gw g) (p0 : Option Nat) (p1 : Option Nat) (h : xm_H) {o : xm_H} (e : F_J10_fill g p0 p1 h = some o) {Q : xm_P} {X : xm_X} (hQ : Q none o) : xm_Run g M_J10_fill 1 [va_rf p0, va_rf p1] h 0 0 Q X := by
  refine xm_Run.of2 (ls := [some (va_rf p0), some (va_rf p1), none, none]) pn_java_util_Arrays (by cases p0 <;> cases p1 <;> exact Nat.le_of_ble_eq_true rfl) (by cases p0 <;> cases p1 <;> rfl) (fun Γ hΓ => ?_)
  obtain ⟨P0, hP0, hp⟩ : ∃ P : xm_H → Prop, (∀ o, P o → Q none o) ∧ P o := ⟨fun o => Q none o, fun _ h => h, hQ⟩
  clear hQ
  show xm_W g Γ 0 [some (va_rf p0), some (va_rf p1), none, none] [] h 0 0
  have hL_5 : ∀ (l0 : Option Nat) (l1 : Option Nat) (l3 : Int32) (s : Int32 × xm_H) (o : xm_H), L_J10_fill_5 g l0 l1 l3 s = some o → P0 o → xm_W g Γ 5 [some (va_rf l0), some (va_rf l1), some (.int s.1), some (.int l3)] [] s.2 0 0 := by
    intro l0 l1 l3
    refine xl_rule (WS := fun s : Int32 × xm_H => xm_W g Γ 5 [some (va_rf l0), some (va_rf l1), some (.int s.1), some (.int l3)] [] s.2 0 0) ?_
    intro s o e hp
    obtain ⟨P1, hP1, hp⟩ : ∃ P : (Int32 × xm_H) ⊕ (xm_H) → Prop, (∀ o, P o → xl_P (fun s : Int32 × xm_H => xm_W g Γ 5 [some (va_rf l0), some (va_rf l1), some (.int s.1), some (.int l3)] [] s.2 0 0) P0 o) ∧ P o := ⟨_, fun _ h => h, hp⟩
    unfold D_J10_fill_5 at e
    refine xw_ild (show xm_Imp g Γ 5 (xi_ild 2 6) from xs_iload_n hΓ dJ10_fill_5) rfl ?_
    refine xw_ild (show xm_Imp g Γ 6 (xi_ild 3 7) from xs_iload_n hΓ dJ10_fill_6) rfl ?_
    refine xw_ic (show xm_Imp g Γ 7 (xi_ic (fun x y => y ≤ x) 20 10) from xs_icmp_ge hΓ dJ10_fill_7 (by decide)) (fun c => ?_) (fun c => ?_)
    · rw [if_pos c] at e
      obtain ⟨_, e, hp⟩ := xl_o_s e (hP1 _ hp)
      exact xw_vret (show xm_Imp g Γ 20 (xi_vret _) from xs_return hΓ rfl dJ10_fill_20) (hP0 _ (xl_fin e hp))
    · rw [if_neg c] at e
      refine xw_aldo (x := l0) (show xm_Imp g Γ 10 (xi_ald 0 11) from xs_aload_n hΓ dJ10_fill_10) rfl ?_
      refine xw_ild (show xm_Imp g Γ 11 (xi_ild 2 12) from xs_iload_n hΓ dJ10_fill_11) rfl ?_
      refine xw_aldo (x := l1) (show xm_Imp g Γ 12 (xi_ald 1 13) from xs_aload_n hΓ dJ10_fill_12) rfl ?_
      obtain ⟨a3, ha3, e⟩ := xo_b_s e
      obtain ⟨h4, e1, e⟩ := xo_b_s e
      refine xw_haas (o := l0) (v := l1) (show xm_Imp g Γ 13 (xi_aas "java/lang/Object" 14) from xs_aas hG hΓ dJ10_fill_13) ha3 e1 ?_
      refine xw_inc (v := (1)) (ls' := [some (va_rf l0), some (va_rf l1), some (.int (s.1 + 1)), some (.int l3)]) (show xm_Imp g Γ 14 (xi_inc 2 (1) 17) from xs_iinc hΓ dJ10_fill_14 (by decide) (Nat.le_of_ble_eq_true rfl)) rfl ((xm_s1_o (o := l1) rfl).trans rfl) ?_
      refine xw_goto (show xm_Imp g Γ 17 (xi_goto 5) from xs_goto hΓ dJ10_fill_17 (by decide)) ?_
      have hq := xl_P_inl (hP1 _ (xl_fin e hp)); exact hq
  unfold F_J10_fill at e
  refine xw_psh (v := (.int (0))) (show xm_Imp g Γ 0 (xi_psh (.int (0)) 1) from xs_iconst hΓ dJ10_fill_0 (by decide)) ?_
  refine xw_ist (ls' := [some (va_rf p0), some (va_rf p1), some (.int 0), none]) (show xm_Imp g Γ 1 (xi_ist 2 2) from xs_istore_n hΓ dJ10_fill_1 (Nat.le_of_ble_eq_true rfl)) ((xm_s1_o (o := p1) rfl).trans rfl) ?_
  refine xw_aldo (x := p0) (show xm_Imp g Γ 2 (xi_ald 0 3) from xs_aload_n hΓ dJ10_fill_2) rfl ?_
  obtain ⟨a1, ha1, e⟩ := xo_b_s e
  obtain ⟨v2, e1, e⟩ := xo_b_s e
  refine xw_hlen (o := p0) (show xm_Imp g Γ 3 (xi_len 4) from xs_len hG hΓ dJ10_fill_3) ha1 e1 ?_
  refine xw_ist (ls' := [some (va_rf p0), some (va_rf p1), some (.int 0), some (.int v2)]) (show xm_Imp g Γ 4 (xi_ist 3 5) from xs_istore_n hΓ dJ10_fill_4 (Nat.le_of_ble_eq_true rfl)) rfl ?_
  exact hL_5 _ _ _ _ _ e hp
noncomputable def F_X1_parse (g : xm_G) (p0 : Nat) (h : xm_H) (bc : Nat) (bs : Nat) (Q : Int32 → xm_H → Prop) : Prop :=
 xt_b (xh_w [(0, 6)] h p0 (.int 0)) (fun h1 =>
 xt_b (xh_w [(0, 7)] h1 p0 (.int (-1))) (fun h2 =>
 xt_new h2 bc bs 11 (.inr (5, [.null, .int 0, .int 0, .int 0, .int 0, .int 0, .int 0, .int 0, .int 0, .null, .null])) (fun a3 h4 b5 b6 =>
 xt_c b5 b6 (fun m7 m8 => F_X6_init g a3 (some p0) h4 m7 m8 (fun h9 =>
 xt_b (xh_is 5 h9 a3) (fun _ =>
 xt_c (b5 - m7) (b6 - m8) (fun m11 m12 => F_X6_parse g a3 h9 m11 m12 (fun v14 h13 =>
 xt_b (xh_w [(0, 0)] h13 p0 (va_rf v14)) (fun h15 =>
 xt_b (xh_fr [(5, 0)] h15 a3) (fun v16 =>
 xt_b (xh_w [(0, 1)] h15 p0 (va_rf v16)) (fun h17 =>
 xt_b (xh_fr [(0, 2)] h17 p0) (fun v18 =>
 xt_b v18 (fun a19 =>
 xt_b (xh_is 13 h17 a19) (fun _ =>
 xt_b (F_J3_clear g a19 h17) (fun v20 =>
 xt_b (xh_fr [(0, 3)] v20 p0) (fun v21 =>
 xt_b (F_J10_fill g v21 none v20) (fun v22 =>
 xt_b (xh_fr [(0, 1)] v22 p0) (fun v23 =>
 xt_b v23 (fun a24 =>
 xt_b (xh_is 12 v22 a24) (fun _ =>
 xt_b (F_J2_size g a24 v22) (fun v25 =>
 xt_b (xh_w [(0, 5)] v22 p0 (.int 0)) (fun h26 =>
 Q v25 h26))))))))))))))) (fun E27 q28 h29 => xt_h E27 [("StringTableau$ParseException", xt_b (xh_fi [(6, 6)] h29 q28) (fun v30 =>
 xt_b (xh_w [(0, 6)] h29 p0 (.int v30)) (fun h31 =>
 xt_b (xh_fi [(6, 7)] h31 q28) (fun v32 =>
 xt_b (xh_w [(0, 7)] h31 p0 (.int v32)) (fun h33 =>
 xt_b (xh_w [(0, 5)] h33 p0 (.int 0)) (fun h34 =>
 Q (-1) h34))))))]))))))))
set_option maxHeartbeats 4000000 in
theorem K_X1_parse {g : xm_G} (hG : xm_Gw g) (p0 : Nat) (h : xm_H) (bc : Nat) (bs : Nat) {Q : Int32 → xm_H → Prop} (e : F_X1_parse g p0 h bc bs Q) : xm_Run g M_X1_parse 27 [.ref p0] h bc bs (fun v h' => ∃ r, v = some (.int r) ∧ Q r h') xm_no := by
  refine xm_Run.of pn_StringTableau (Nat.le_of_ble_eq_true rfl) (fun Γ hΓ => ?_)
  show xm_W g Γ 0 [some (.ref p0), none, none, none] [] h bc bs
  unfold F_X1_parse at e
  refine xw_ald (show xm_Imp g Γ 0 (xi_ald 0 1) from xs_aload_n hΓ dX1_parse_0) rfl ?_
  refine xw_psh (v := (.int (0))) (show xm_Imp g Γ 1 (xi_psh (.int (0)) 2) from xs_iconst hΓ dX1_parse_1 (by decide)) ?_
  obtain ⟨h1, e1, e⟩ := e
  refine xw_pt1 (o := (some p0)) (show xm_Imp g Γ 2 (xi_put 0 6 (.int) 5) from xs_put hG hΓ (ci := 0) (kf := 6) rfl (Nat.le_of_ble_eq_true rfl) rfl (by decide +kernel) q353 dX1_parse_2) rfl (xf_int _) e1 ?_
  refine xw_ald (show xm_Imp g Γ 5 (xi_ald 0 6) from xs_aload_n hΓ dX1_parse_5) rfl ?_
  refine xw_psh (v := (.int (-1))) (show xm_Imp g Γ 6 (xi_psh (.int (-1)) 7) from xs_iconst hΓ dX1_parse_6 (by decide)) ?_
  obtain ⟨h2, e1, e⟩ := e
  refine xw_pt1 (o := (some p0)) (show xm_Imp g Γ 7 (xi_put 0 7 (.int) 10) from xs_put hG hΓ (ci := 0) (kf := 7) rfl (Nat.le_of_ble_eq_true rfl) rfl (by decide +kernel) q354 dX1_parse_7) rfl (xf_int _) e1 ?_
  refine xw_new (show xm_Imp g Γ 10 (xi_new 5 11 [.null, .int 0, .int 0, .int 0, .int 0, .int 0, .int 0, .int 0, .int 0, .null, .null] 13) from xs_new hG hΓ (ci := 5) rfl q395 q396 q133 rfl tyX6 tyX6_ok (xm_df 11 (by decide +kernel)) dX1_parse_10) e (fun a3 h4 b5 b6 e => ?_)
  refine xw_dup (show xm_Imp g Γ 13 (xi_dup 14) from xs_dup hΓ dX1_parse_13) rfl ?_
  refine xw_ald (show xm_Imp g Γ 14 (xi_ald 0 15) from xs_aload_n hΓ dX1_parse_14) rfl ?_
  obtain ⟨m7, m8, ⟨em1, em2⟩, e⟩ := e
  refine xw_tpu1 (o := (some a3)) (show xm_Imp g Γ 15 (xi_spe g M_X6_init 21 1 18) from xs_invI hG hΓ k_X6_init rfl q397 q398 rfl dX1_parse_15) rfl rfl em1 em2 (K_X6_init hG a3 (some p0) _ _ _ e) (fun h9 e => ?_)
  refine xw_ast (ls' := [some (.ref p0), some (.ref a3), none, none]) (show xm_Imp g Γ 18 (xi_ast 1 19) from xs_astore_n hΓ dX1_parse_18 (Nat.le_of_ble_eq_true rfl)) rfl ?_
  refine xw_ald (show xm_Imp g Γ 19 (xi_ald 0 20) from xs_aload_n hΓ dX1_parse_19) rfl ?_
  refine xw_ald (show xm_Imp g Γ 20 (xi_ald 1 21) from xs_aload_n hΓ dX1_parse_20) rfl ?_
  obtain ⟨_, e0, e⟩ := e
  obtain ⟨m11, m12, ⟨em1, em2⟩, e⟩ := e
  refine xw_tHvr0 (o := (some a3)) (show xm_Imp g Γ 21 (xi_virH g 5 M_X6_parse 26 0 24 [("StringTableau$ParseException", 67)]) from xs_invVH hG hΓ k_X6_parse rfl (hs0 := [("StringTableau$ParseException", 67)]) (xm_cov1 (by decide) (by decide) q394 (xm_covN _ _ _)) (ci := 5) rfl q757 q758 q759 dX1_parse_21) rfl rfl e0 em1 em2 (K_X6_parse hG a3 _ _ _ e) (fun v14 h13 e => ?_) (fun E27 q28 h29 e => ?_)
  · obtain ⟨h15, e1, e⟩ := e
    refine xw_pt1 (o := (some p0)) (show xm_Imp g Γ 24 (xi_put 0 0 (.object "StringTableau$State") 27) from xs_put hG hΓ (ci := 0) (kf := 0) rfl (Nat.le_of_ble_eq_true rfl) rfl (by decide +kernel) q343 dX1_parse_24) rfl (xv_fit (Or.inl ⟨_, rfl⟩) v14) e1 ?_
    refine xw_ald (show xm_Imp g Γ 27 (xi_ald 0 28) from xs_aload_n hΓ dX1_parse_27) rfl ?_
    refine xw_ald (show xm_Imp g Γ 28 (xi_ald 1 29) from xs_aload_n hΓ dX1_parse_28) rfl ?_
    obtain ⟨v16, e1, e⟩ := e
    refine xw_gr1 (o := (some a3)) (show xm_Imp g Γ 29 (xi_get 5 0 32) from xs_getN hG hΓ (ci := 5) (kf := 0) rfl (Nat.le_of_ble_eq_true rfl) q723 dX1_parse_29) rfl e1 ?_
    obtain ⟨h17, e1, e⟩ := e
    refine xw_pt1 (o := (some p0)) (show xm_Imp g Γ 32 (xi_put 0 1 (.object "java/util/List") 35) from xs_put hG hΓ (ci := 0) (kf := 1) rfl (Nat.le_of_ble_eq_true rfl) rfl (by decide +kernel) q346 dX1_parse_32) rfl (xv_fit (Or.inl ⟨_, rfl⟩) v16) e1 ?_
    refine xw_ald (show xm_Imp g Γ 35 (xi_ald 0 36) from xs_aload_n hΓ dX1_parse_35) rfl ?_
    obtain ⟨v18, e1, e⟩ := e
    refine xw_gr1 (o := (some p0)) (show xm_Imp g Γ 36 (xi_get 0 2 39) from xs_get hG hΓ (ci := 0) (kf := 2) rfl (Nat.le_of_ble_eq_true rfl) q347 dX1_parse_36) rfl e1 ?_
    obtain ⟨a19, ha19, e⟩ := e
    obtain ⟨_, e0, e⟩ := e
    obtain ⟨v20, e1, e⟩ := e
    refine xw_hu0 (o := v18) (show xm_Imp g Γ 39 (xi_vir g 13 M_J3_clear 2 0 42) from xs_invV hG hΓ k_J3_clear rfl (ci := 13) rfl q1115 q1116 q1117 dX1_parse_39) (by simp [xm_stk, xv_cat, xc_int, xc_long, xc_float, xc_double, xc_ref]) ha19 e0 (fun Q X hQ => K_J3_clear hG a19 _ e1 hQ) ?_
    refine xw_ald (show xm_Imp g Γ 42 (xi_ald 0 43) from xs_aload_n hΓ dX1_parse_42) rfl ?_
    obtain ⟨v21, e1, e⟩ := e
    refine xw_gr1 (o := (some p0)) (show xm_Imp g Γ 43 (xi_get 0 3 46) from xs_get hG hΓ (ci := 0) (kf := 3) rfl (Nat.le_of_ble_eq_true rfl) q348 dX1_parse_43) rfl e1 ?_
    refine xw_psh (v := .null) (show xm_Imp g Γ 46 (xi_psh .null 47) from xs_null hΓ dX1_parse_46) ?_
    obtain ⟨v22, e1, e⟩ := e
    refine xw_su2 (show xm_Imp g Γ 47 (xi_inv g M_J10_fill 1 2 50) from xs_invS hG hΓ k_J10_fill rfl q1122 q1123 dX1_parse_47) rfl (fun Q X hQ => K_J10_fill hG v21 none _ e1 hQ) ?_
    refine xw_ald (show xm_Imp g Γ 50 (xi_ald 0 51) from xs_aload_n hΓ dX1_parse_50) rfl ?_
    obtain ⟨v23, e1, e⟩ := e
    refine xw_gr1 (o := (some p0)) (show xm_Imp g Γ 51 (xi_get 0 1 54) from xs_get hG hΓ (ci := 0) (kf := 1) rfl (Nat.le_of_ble_eq_true rfl) q346 dX1_parse_51) rfl e1 ?_
    obtain ⟨a24, ha24, e⟩ := e
    obtain ⟨_, e0, e⟩ := e
    obtain ⟨v25, e1, e⟩ := e
    refine xw_hv0 (o := v23) (show xm_Imp g Γ 54 (xi_vir g 12 M_J2_size 1 0 59) from xs_invF hG hΓ k_J2_size rfl (ci := 12) rfl q1126 q906 q904 ⟨by decide, by decide⟩ (by decide +kernel) q902 q901 q907 q905 q903 dX1_parse_54) (by simp [xm_stk, xv_cat, xc_int, xc_long, xc_float, xc_double, xc_ref]) ha24 e0 (fun Q X hQ => K_J2_size hG a24 _ e1 hQ) ?_
    refine xw_ist (ls' := [some (.ref p0), some (.ref a3), some (.int v25), none]) (show xm_Imp g Γ 59 (xi_ist 2 60) from xs_istore_n hΓ dX1_parse_59 (Nat.le_of_ble_eq_true rfl)) rfl ?_
    refine xw_ald (show xm_Imp g Γ 60 (xi_ald 0 61) from xs_aload_n hΓ dX1_parse_60) rfl ?_
    refine xw_psh (v := (.int (0))) (show xm_Imp g Γ 61 (xi_psh (.int (0)) 62) from xs_iconst hΓ dX1_parse_61 (by decide)) ?_
    obtain ⟨h26, e1, e⟩ := e
    refine xw_pt1 (o := (some p0)) (show xm_Imp g Γ 62 (xi_put 0 5 (.int) 65) from xs_put hG hΓ (ci := 0) (kf := 5) rfl (Nat.le_of_ble_eq_true rfl) rfl (by decide +kernel) q352 dX1_parse_62) rfl (xf_int _) e1 ?_
    refine xw_ild (show xm_Imp g Γ 65 (xi_ild 2 66) from xs_iload_n hΓ dX1_parse_65) rfl ?_
    exact xw_iret (show xm_Imp g Γ 66 (xi_iret .int _) from xs_ireturn hΓ rfl dX1_parse_66) (xn_int _) ⟨_, rfl, e⟩
  rcases e with ⟨ec, e⟩ | ⟨ec, e⟩
  · refine Or.inl ⟨ec, ?_⟩
    refine xw_ast (ls' := [some (.ref p0), some (.ref q28), none, none]) (show xm_Imp g Γ 67 (xi_ast 1 68) from xs_astore_n hΓ dX1_parse_67 (Nat.le_of_ble_eq_true rfl)) rfl ?_
    refine xw_ald (show xm_Imp g Γ 68 (xi_ald 0 69) from xs_aload_n hΓ dX1_parse_68) rfl ?_
    refine xw_ald (show xm_Imp g Γ 69 (xi_ald 1 70) from xs_aload_n hΓ dX1_parse_69) rfl ?_
    obtain ⟨v30, e1, e⟩ := e
    refine xw_gi1 (o := (some q28)) (show xm_Imp g Γ 70 (xi_get 6 6 73) from xs_getN hG hΓ (ci := 6) (kf := 6) rfl (Nat.le_of_ble_eq_true rfl) q797 dX1_parse_70) rfl e1 ?_
    obtain ⟨h31, e1, e⟩ := e
    refine xw_pt1 (o := (some p0)) (show xm_Imp g Γ 73 (xi_put 0 6 (.int) 76) from xs_put hG hΓ (ci := 0) (kf := 6) rfl (Nat.le_of_ble_eq_true rfl) rfl (by decide +kernel) q353 dX1_parse_73) rfl (xf_int _) e1 ?_
    refine xw_ald (show xm_Imp g Γ 76 (xi_ald 0 77) from xs_aload_n hΓ dX1_parse_76) rfl ?_
    refine xw_ald (show xm_Imp g Γ 77 (xi_ald 1 78) from xs_aload_n hΓ dX1_parse_77) rfl ?_
    obtain ⟨v32, e1, e⟩ := e
    refine xw_gi1 (o := (some q28)) (show xm_Imp g Γ 78 (xi_get 6 7 81) from xs_getN hG hΓ (ci := 6) (kf := 7) rfl (Nat.le_of_ble_eq_true rfl) q799 dX1_parse_78) rfl e1 ?_
    obtain ⟨h33, e1, e⟩ := e
    refine xw_pt1 (o := (some p0)) (show xm_Imp g Γ 81 (xi_put 0 7 (.int) 84) from xs_put hG hΓ (ci := 0) (kf := 7) rfl (Nat.le_of_ble_eq_true rfl) rfl (by decide +kernel) q354 dX1_parse_81) rfl (xf_int _) e1 ?_
    refine xw_psh (v := (.int (-1))) (show xm_Imp g Γ 84 (xi_psh (.int (-1)) 85) from xs_iconst hΓ dX1_parse_84 (by decide)) ?_
    refine xw_ist (ls' := [some (.ref p0), some (.ref q28), some (.int (-1)), none]) (show xm_Imp g Γ 85 (xi_ist 2 86) from xs_istore_n hΓ dX1_parse_85 (Nat.le_of_ble_eq_true rfl)) rfl ?_
    refine xw_ald (show xm_Imp g Γ 86 (xi_ald 0 87) from xs_aload_n hΓ dX1_parse_86) rfl ?_
    refine xw_psh (v := (.int (0))) (show xm_Imp g Γ 87 (xi_psh (.int (0)) 88) from xs_iconst hΓ dX1_parse_87 (by decide)) ?_
    obtain ⟨h34, e1, e⟩ := e
    refine xw_pt1 (o := (some p0)) (show xm_Imp g Γ 88 (xi_put 0 5 (.int) 91) from xs_put hG hΓ (ci := 0) (kf := 5) rfl (Nat.le_of_ble_eq_true rfl) rfl (by decide +kernel) q352 dX1_parse_88) rfl (xf_int _) e1 ?_
    refine xw_ild (show xm_Imp g Γ 91 (xi_ild 2 92) from xs_iload_n hΓ dX1_parse_91) rfl ?_
    exact xw_iret (show xm_Imp g Γ 92 (xi_iret .int _) from xs_ireturn hΓ rfl dX1_parse_92) (xn_int _) ⟨_, rfl, e⟩
  refine Or.inr ⟨ec, ?_⟩
  exact e.elim
noncomputable def F_X1_errorCode (g : xm_G) (p0 : Nat) (h : xm_H) : Option (Int32) :=
 xo_b (xh_fi [(0, 6)] h p0) (fun v1 =>
 some v1)
set_option maxHeartbeats 4000000 in
theorem K_X1_errorCode {g : xm_G} (hG : xm_Gw g) (p0 : Nat) (h : xm_H) {o : Int32} (e : F_X1_errorCode g p0 h = some o) {Q : xm_P} {X : xm_X} (hQ : Q (some (.int o)) h) : xm_Run g M_X1_errorCode 1 [.ref p0] h 0 0 Q X := by
  refine xm_Run.of pn_StringTableau (Nat.le_of_ble_eq_true rfl) (fun Γ hΓ => ?_)
  obtain ⟨P0, hP0, hp⟩ : ∃ P : Int32 → Prop, (∀ o, P o → Q (some (.int o)) h) ∧ P o := ⟨fun o => Q (some (.int o)) h, fun _ h => h, hQ⟩
  clear hQ
  show xm_W g Γ 0 [some (.ref p0)] [] h 0 0
  unfold F_X1_errorCode at e
  refine xw_ald (show xm_Imp g Γ 0 (xi_ald 0 1) from xs_aload_n hΓ dX1_errorCode_0) rfl ?_
  obtain ⟨v1, e1, e⟩ := xo_b_s e
  refine xw_gi1 (o := (some p0)) (show xm_Imp g Γ 1 (xi_get 0 6 4) from xs_get hG hΓ (ci := 0) (kf := 6) rfl (Nat.le_of_ble_eq_true rfl) q353 dX1_errorCode_1) rfl e1 ?_
  have hq := hP0 _ (xl_fin e hp)
  exact xw_iret (show xm_Imp g Γ 4 (xi_iret .int _) from xs_ireturn hΓ rfl dX1_errorCode_4) (xn_int _) hq
noncomputable def F_X1_errorOffset (g : xm_G) (p0 : Nat) (h : xm_H) : Option (Int32) :=
 xo_b (xh_fi [(0, 7)] h p0) (fun v1 =>
 some v1)
set_option maxHeartbeats 4000000 in
theorem K_X1_errorOffset {g : xm_G} (hG : xm_Gw g) (p0 : Nat) (h : xm_H) {o : Int32} (e : F_X1_errorOffset g p0 h = some o) {Q : xm_P} {X : xm_X} (hQ : Q (some (.int o)) h) : xm_Run g M_X1_errorOffset 1 [.ref p0] h 0 0 Q X := by
  refine xm_Run.of pn_StringTableau (Nat.le_of_ble_eq_true rfl) (fun Γ hΓ => ?_)
  obtain ⟨P0, hP0, hp⟩ : ∃ P : Int32 → Prop, (∀ o, P o → Q (some (.int o)) h) ∧ P o := ⟨fun o => Q (some (.int o)) h, fun _ h => h, hQ⟩
  clear hQ
  show xm_W g Γ 0 [some (.ref p0)] [] h 0 0
  unfold F_X1_errorOffset at e
  refine xw_ald (show xm_Imp g Γ 0 (xi_ald 0 1) from xs_aload_n hΓ dX1_errorOffset_0) rfl ?_
  obtain ⟨v1, e1, e⟩ := xo_b_s e
  refine xw_gi1 (o := (some p0)) (show xm_Imp g Γ 1 (xi_get 0 7 4) from xs_get hG hΓ (ci := 0) (kf := 7) rfl (Nat.le_of_ble_eq_true rfl) q354 dX1_errorOffset_1) rfl e1 ?_
  have hq := hP0 _ (xl_fin e hp)
  exact xw_iret (show xm_Imp g Γ 4 (xi_iret .int _) from xs_ireturn hΓ rfl dX1_errorOffset_4) (xn_int _) hq
noncomputable def F_X1_qubits (g : xm_G) (p0 : Nat) (h : xm_H) : Option (Int32) :=
 xo_b (xh_fr [(0, 0)] h p0) (fun v1 =>
 xo_b v1 (fun a2 =>
 xo_b (xh_fr [(1, 0)] h a2) (fun v3 =>
 xo_b v3 (fun a4 =>
 xo_b (xh_fr [(2, 0)] h a4) (fun v5 =>
 xo_b v5 (fun a6 =>
 xo_b (xh_len h a6) (fun v7 =>
 some v7)))))))
set_option maxHeartbeats 4000000 in
theorem K_X1_qubits {g : xm_G} (hG : xm_Gw g) (p0 : Nat) (h : xm_H) {o : Int32} (e : F_X1_qubits g p0 h = some o) {Q : xm_P} {X : xm_X} (hQ : Q (some (.int o)) h) : xm_Run g M_X1_qubits 1 [.ref p0] h 0 0 Q X := by
  refine xm_Run.of pn_StringTableau (Nat.le_of_ble_eq_true rfl) (fun Γ hΓ => ?_)
  obtain ⟨P0, hP0, hp⟩ : ∃ P : Int32 → Prop, (∀ o, P o → Q (some (.int o)) h) ∧ P o := ⟨fun o => Q (some (.int o)) h, fun _ h => h, hQ⟩
  clear hQ
  show xm_W g Γ 0 [some (.ref p0)] [] h 0 0
  unfold F_X1_qubits at e
  refine xw_ald (show xm_Imp g Γ 0 (xi_ald 0 1) from xs_aload_n hΓ dX1_qubits_0) rfl ?_
  obtain ⟨v1, e1, e⟩ := xo_b_s e
  refine xw_gr1 (o := (some p0)) (show xm_Imp g Γ 1 (xi_get 0 0 4) from xs_get hG hΓ (ci := 0) (kf := 0) rfl (Nat.le_of_ble_eq_true rfl) q343 dX1_qubits_1) rfl e1 ?_
  obtain ⟨a2, ha2, e⟩ := xo_b_s e
  obtain ⟨v3, e1, e⟩ := xo_b_s e
  refine xw_gr1 (o := v1) (show xm_Imp g Γ 4 (xi_get 1 0 7) from xs_getN hG hΓ (ci := 1) (kf := 0) rfl (Nat.le_of_ble_eq_true rfl) q276 dX1_qubits_4) ha2 e1 ?_
  obtain ⟨a4, ha4, e⟩ := xo_b_s e
  obtain ⟨v5, e1, e⟩ := xo_b_s e
  refine xw_gr1 (o := v3) (show xm_Imp g Γ 7 (xi_get 2 0 10) from xs_getN hG hΓ (ci := 2) (kf := 0) rfl (Nat.le_of_ble_eq_true rfl) q271 dX1_qubits_7) ha4 e1 ?_
  obtain ⟨a6, ha6, e⟩ := xo_b_s e
  obtain ⟨v7, e1, e⟩ := xo_b_s e
  refine xw_hlen (o := v5) (show xm_Imp g Γ 10 (xi_len 11) from xs_len hG hΓ dX1_qubits_10) ha6 e1 ?_
  have hq := hP0 _ (xl_fin e hp)
  exact xw_iret (show xm_Imp g Γ 11 (xi_iret .int _) from xs_ireturn hΓ rfl dX1_qubits_11) (xn_int _) hq
noncomputable def F_J19_checkIndex (g : xm_G) (p0 : Int32) (p1 : Int32) (h : xm_H) : Option (Int32) :=
 xo_b (F_J12_checkIndex g p0 p1 none h) (fun v1 =>
 some v1)
set_option maxHeartbeats 4000000 in
theorem K_J19_checkIndex {g : xm_G} (hG : xm_Gw g) (p0 : Int32) (p1 : Int32) (h : xm_H) {o : Int32} (e : F_J19_checkIndex g p0 p1 h = some o) {Q : xm_P} {X : xm_X} (hQ : Q (some (.int o)) h) : xm_Run g M_J19_checkIndex 9 [.int p0, .int p1] h 0 0 Q X := by
  refine xm_Run.of pn_java_util_Objects (Nat.le_of_ble_eq_true rfl) (fun Γ hΓ => ?_)
  obtain ⟨P0, hP0, hp⟩ : ∃ P : Int32 → Prop, (∀ o, P o → Q (some (.int o)) h) ∧ P o := ⟨fun o => Q (some (.int o)) h, fun _ h => h, hQ⟩
  clear hQ
  show xm_W g Γ 0 [some (.int p0), some (.int p1)] [] h 0 0
  unfold F_J19_checkIndex at e
  refine xw_ild (show xm_Imp g Γ 0 (xi_ild 0 1) from xs_iload_n hΓ dJ19_checkIndex_0) rfl ?_
  refine xw_ild (show xm_Imp g Γ 1 (xi_ild 1 2) from xs_iload_n hΓ dJ19_checkIndex_1) rfl ?_
  refine xw_psh (v := .null) (show xm_Imp g Γ 2 (xi_psh .null 3) from xs_null hΓ dJ19_checkIndex_2) ?_
  obtain ⟨v1, e1, e⟩ := xo_b_s e
  refine xw_sv3 (show xm_Imp g Γ 3 (xi_inv g M_J12_checkIndex 8 3 6) from xs_invS hG hΓ k_J12_checkIndex rfl q1159 q512 dJ19_checkIndex_3) rfl (fun Q X hQ => K_J12_checkIndex hG p0 p1 none _ e1 hQ) ?_
  have hq := hP0 _ (xl_fin e hp)
  exact xw_iret (show xm_Imp g Γ 6 (xi_iret .int _) from xs_ireturn hΓ rfl dJ19_checkIndex_6) (xn_int _) hq
