/-! THE REFERENCE as functions (printed by gen/mkmfun.py) -/
set_option maxRecDepth 100000
noncomputable def F_X5_says (p1 : Int32) (σ : xM_S) : Option (xM_S) :=
 xo_b (xa_ix 2400 (σ.1 41)) (fun j1 =>
 some (xM_f (xM_a σ 40 j1 p1.toInt8.toInt32.toInt8.toInt32) 41 ((σ.1 41) + 1)))
set_option maxHeartbeats 4000000 in
theorem K_X5_says {g : xm_G} (hG : xm_Gw g) {h0 : xm_H} {m : Nat} {ad : Nat → Nat} (hM : xM_ok h0 m ad) (hB : xk_B g h0) (p1 : Int32) (σ : xM_S) {o : xM_S} (e : F_X5_says p1 σ = some o) {Q : xm_P} {X : xm_X} (hQ : Q none (xMp h0 m ad o)) : xm_Run g M_X5_says 1 [.ref m, .int p1] (xMp h0 m ad σ) 0 0 Q X := by
  refine xm_Run.of pn_StringTableauModel (Nat.le_of_ble_eq_true rfl) (fun Γ hΓ => ?_)
  obtain ⟨P0, hP0, hp⟩ : ∃ P : xM_S → Prop, (∀ o, P o → Q none (xMp h0 m ad o)) ∧ P o := ⟨fun o => Q none (xMp h0 m ad o), fun _ h => h, hQ⟩
  clear hQ
  show xm_W g Γ 0 [some (.ref m), some (.int p1)] [] (xMp h0 m ad σ) 0 0
  unfold F_X5_says at e
  refine xw_ald (show xm_Imp g Γ 0 (xi_ald 0 1) from xs_aload_n hΓ dX5_says_0) rfl ?_
  refine xw_mga (k := 40) (show xm_Imp g Γ 1 (xi_get 4 40 4) from xs_get hG hΓ (ci := 4) (kf := 40) rfl (Nat.le_of_ble_eq_true rfl) q2890 dX5_says_1) (fun _ => rfl) ?_
  refine xw_ald (show xm_Imp g Γ 4 (xi_ald 0 5) from xs_aload_n hΓ dX5_says_4) rfl ?_
  refine xw_mgi (v := (σ.1 41)) (show xm_Imp g Γ 5 (xi_get 4 41 8) from xs_get hG hΓ (ci := 4) (kf := 41) rfl (Nat.le_of_ble_eq_true rfl) q2891 dX5_says_5) (fun _ => rfl) rfl ?_
  refine xw_ild (show xm_Imp g Γ 8 (xi_ild 1 9) from xs_iload_n hΓ dX5_says_8) rfl ?_
  refine xw_i1 (show xm_Imp g Γ 9 (xi_i1 (fun x => x.toInt8.toInt32) 10) from xs_i2b hΓ dX5_says_9) ?_
  obtain ⟨j1, e1, e⟩ := xo_b_s e
  refine xw_mbas (k := 40) (show xm_Imp g Γ 10 (xi_bas 11) from xs_bas hG hΓ dX5_says_10) hM (by decide) rfl e1 ?_
  refine xw_ald (show xm_Imp g Γ 11 (xi_ald 0 12) from xs_aload_n hΓ dX5_says_11) rfl ?_
  refine xw_ald (show xm_Imp g Γ 12 (xi_ald 0 13) from xs_aload_n hΓ dX5_says_12) rfl ?_
  refine xw_mgi (v := (σ.1 41)) (show xm_Imp g Γ 13 (xi_get 4 41 16) from xs_get hG hΓ (ci := 4) (kf := 41) rfl (Nat.le_of_ble_eq_true rfl) q2891 dX5_says_13) (fun _ => rfl) rfl ?_
  refine xw_psh (v := (.int (1))) (show xm_Imp g Γ 16 (xi_psh (.int (1)) 17) from xs_iconst hΓ dX5_says_16 (by decide)) ?_
  refine xw_ii (show xm_Imp g Γ 17 (xi_ii (fun x y => x + y) 18) from xs_iadd hΓ dX5_says_17) ?_
  refine xw_mpi (show xm_Imp g Γ 18 (xi_put 4 41 (.int) 21) from xs_put hG hΓ (ci := 4) (kf := 41) rfl (Nat.le_of_ble_eq_true rfl) rfl (by decide +kernel) q2891 dX5_says_18) (fun _ _ => rfl) ⟨rfl, rfl⟩ ?_
  exact xw_vret (show xm_Imp g Γ 21 (xi_vret _) from xs_return hΓ rfl dX5_says_21) (hP0 _ (xl_fin e hp))
noncomputable def D_X5_saysLetters_2 (l1 : Int32) (l2 : Int32) (s : Int32 × xM_S) : Option ((Int32 × xM_S) ⊕ (xM_S)) :=
 (if (s.2.2 1 0) ≤ s.1 then
 xl_o (some s.2) else
 xo_b (xk_ch xk_L (F_X5_letterOf l1 l2 s.1)) (fun v1 =>
 xo_b (F_X5_says v1 s.2) (fun v2 =>
 some (Sum.inl (s.1 + 1, v2)))))
noncomputable def L_X5_saysLetters_2 (l1 : Int32) (l2 : Int32) (s : Int32 × xM_S) : Option (xM_S) := xl_loop (D_X5_saysLetters_2 l1 l2) s
noncomputable def F_X5_saysLetters (p1 : Int32) (p2 : Int32) (σ : xM_S) : Option (xM_S) :=
 L_X5_saysLetters_2 p1 p2 (0, σ)
set_option maxHeartbeats 4000000 in
theorem K_X5_saysLetters {g : xm_G} (hG : xm_Gw g) {h0 : xm_H} {m : Nat} {ad : Nat → Nat} (hM : xM_ok h0 m ad) (hB : xk_B g h0) (p1 : Int32) (p2 : Int32) (σ : xM_S) {o : xM_S} (e : F_X5_saysLetters p1 p2 σ = some o) {Q : xm_P} {X : xm_X} (hQ : Q none (xMp h0 m ad o)) : xm_Run g M_X5_saysLetters 12 [.ref m, .int p1, .int p2] (xMp h0 m ad σ) 0 0 Q X := by
  refine xm_Run.of pn_StringTableauModel (Nat.le_of_ble_eq_true rfl) (fun Γ hΓ => ?_)
  obtain ⟨P0, hP0, hp⟩ : ∃ P : xM_S → Prop, (∀ o, P o → Q none (xMp h0 m ad o)) ∧ P o := ⟨fun o => Q none (xMp h0 m ad o), fun _ h => h, hQ⟩
  clear hQ
  show xm_W g Γ 0 [some (.ref m), some (.int p1), some (.int p2), none] [] (xMp h0 m ad σ) 0 0
  have hL_2 : ∀ (l1 : Int32) (l2 : Int32) (s : Int32 × xM_S) (o : xM_S), L_X5_saysLetters_2 l1 l2 s = some o → P0 o → xm_W g Γ 2 [some (.ref m), some (.int l1), some (.int l2), some (.int s.1)] [] (xMp h0 m ad s.2) 0 0 := by
    intro l1 l2
    refine xl_rule (WS := fun s : Int32 × xM_S => xm_W g Γ 2 [some (.ref m), some (.int l1), some (.int l2), some (.int s.1)] [] (xMp h0 m ad s.2) 0 0) ?_
    intro s o e hp
    obtain ⟨P1, hP1, hp⟩ : ∃ P : (Int32 × xM_S) ⊕ (xM_S) → Prop, (∀ o, P o → xl_P (fun s : Int32 × xM_S => xm_W g Γ 2 [some (.ref m), some (.int l1), some (.int l2), some (.int s.1)] [] (xMp h0 m ad s.2) 0 0) P0 o) ∧ P o := ⟨_, fun _ h => h, hp⟩
    unfold D_X5_saysLetters_2 at e
    refine xw_ild (show xm_Imp g Γ 2 (xi_ild 3 3) from xs_iload_n hΓ dX5_saysLetters_2) rfl ?_
    refine xw_ald (show xm_Imp g Γ 3 (xi_ald 0 4) from xs_aload_n hΓ dX5_saysLetters_3) rfl ?_
    refine xw_mga (k := 1) (show xm_Imp g Γ 4 (xi_get 4 1 7) from xs_get hG hΓ (ci := 4) (kf := 1) rfl (Nat.le_of_ble_eq_true rfl) q2851 dX5_saysLetters_4) (fun _ => rfl) ?_
    refine xw_psh (v := (.int (0))) (show xm_Imp g Γ 7 (xi_psh (.int (0)) 8) from xs_iconst hΓ dX5_saysLetters_7 (by decide)) ?_
    refine xw_mial (k := 1) (j := 0) (v := (s.2.2 1 0)) (show xm_Imp g Γ 8 (xi_ial 9) from xs_ial hG hΓ dX5_saysLetters_8) hM (by decide) rfl rfl rfl ?_
    refine xw_ic (show xm_Imp g Γ 9 (xi_ic (fun x y => y ≤ x) 34 12) from xs_icmp_ge hΓ dX5_saysLetters_9 (by decide)) (fun c => ?_) (fun c => ?_)
    · rw [if_pos c] at e
      obtain ⟨_, e, hp⟩ := xl_o_s e (hP1 _ hp)
      exact xw_vret (show xm_Imp g Γ 34 (xi_vret _) from xs_return hΓ rfl dX5_saysLetters_34) (hP0 _ (xl_fin e hp))
    · rw [if_neg c] at e
      refine xw_ald (show xm_Imp g Γ 12 (xi_ald 0 13) from xs_aload_n hΓ dX5_saysLetters_12) rfl ?_
      refine xw_psh (v := (.ref (xm_sa g "StringTableauModel" 434))) (show xm_Imp g Γ 13 (xi_psh (.ref (xm_sa g "StringTableauModel" 434)) 16) from xs_ldSw hG hΓ q3500 dX5_saysLetters_13) ?_
      refine xw_ild (show xm_Imp g Γ 16 (xi_ild 1 17) from xs_iload_n hΓ dX5_saysLetters_16) rfl ?_
      refine xw_ild (show xm_Imp g Γ 17 (xi_ild 2 18) from xs_iload_n hΓ dX5_saysLetters_17) rfl ?_
      refine xw_ild (show xm_Imp g Γ 18 (xi_ild 3 19) from xs_iload_n hΓ dX5_saysLetters_18) rfl ?_
      refine xw_sv3 (show xm_Imp g Γ 19 (xi_inv g M_X5_letterOf 2 3 22) from xs_invS hG hΓ k_X5_letterOf rfl q3034 q3035 dX5_saysLetters_19) rfl (fun Q X hQ => K_X5_letterOf hG l1 l2 s.1 rfl hQ) ?_
      obtain ⟨v1, e1, e⟩ := xo_b_s e
      refine xw_mch (tx := xk_L) hG (show xm_Imp g Γ 22 (xi_vir g 15 M_J6_charAt 11 1 25) from xs_invV hG hΓ k_J6_charAt rfl (ci := 15) rfl q3193 q928 q929 dX5_saysLetters_22) hM hB (by decide) rfl e1 ?_
      obtain ⟨v2, e1, e⟩ := xo_b_s e
      refine xw_mu1 (show xm_Imp g Γ 25 (xi_vir g 4 M_X5_says 1 1 28) from xs_invV hG hΓ k_X5_says rfl (ci := 4) rfl q3492 q3494 qs114 dX5_saysLetters_25) rfl (fun Q X hQ => K_X5_says hG hM hB v1 s.2 e1 hQ) ?_
      refine xw_inc (v := (1)) (ls' := [some (.ref m), some (.int l1), some (.int l2), some (.int (s.1 + 1))]) (show xm_Imp g Γ 28 (xi_inc 3 (1) 31) from xs_iinc hΓ dX5_saysLetters_28 (by decide) (Nat.le_of_ble_eq_true rfl)) rfl rfl ?_
      refine xw_goto (show xm_Imp g Γ 31 (xi_goto 2) from xs_goto hΓ dX5_saysLetters_31 (by decide)) ?_
      have hq := xl_P_inl (hP1 _ (xl_fin e hp)); exact hq
  unfold F_X5_saysLetters at e
  refine xw_psh (v := (.int (0))) (show xm_Imp g Γ 0 (xi_psh (.int (0)) 1) from xs_iconst hΓ dX5_saysLetters_0 (by decide)) ?_
  refine xw_ist (ls' := [some (.ref m), some (.int p1), some (.int p2), some (.int 0)]) (show xm_Imp g Γ 1 (xi_ist 3 2) from xs_istore_n hΓ dX5_saysLetters_1 (Nat.le_of_ble_eq_true rfl)) rfl ?_
  exact hL_2 _ _ _ _ e hp
noncomputable def B_X5_print_62 (l2 : Int32) (s1 : Int32) (σ : xM_S) : Option ((Int32 × xM_S) ⊕ (Int32 × xM_S)) :=
 xo_b (F_X5_says s1 σ) (fun v4 =>
 xo_b (xa_ix 530 (6 + l2)) (fun j5 =>
 xo_b (xa_ix 530 (14 + l2)) (fun j6 =>
 xo_b (F_X5_saysLetters (v4.2 1 j5) (v4.2 1 j6) v4) (fun v7 =>
 xo_b (F_X5_says 10 v7) (fun v8 =>
 some (Sum.inl (l2 + 1, v8)))))))
noncomputable def D_X5_print_31  (s : Int32 × xM_S) : Option ((Int32 × xM_S) ⊕ (Int32 × xM_S)) :=
 (if (s.2.2 1 0) ≤ s.1 then
 xl_o (xo_b (F_X5_copies 3 1 s.2) (fun v2 =>
 some (((v2.1 41), v2)))) else
 xo_b (xa_ix 530 (22 + s.1)) (fun j3 =>
 B_X5_print_62 s.1 (if (s.2.2 1 j3) = 1 then 45 else 43) s.2))
noncomputable def L_X5_print_31  (s : Int32 × xM_S) : Option (Int32 × xM_S) := xl_loop (D_X5_print_31 ) s
noncomputable def B_X5_print_29 (σ : xM_S) : Option (Int32 × xM_S) :=
 L_X5_print_31 (0, σ)
noncomputable def F_X5_print (p1 : Int32) (σ : xM_S) : Option (Int32 × xM_S) :=
 xo_b (F_X5_copies 1 3 (xM_f (xM_f σ 0 0) 41 0)) (fun v1 =>
 (if p1 = 0 then
 B_X5_print_29 v1 else
 xo_b (F_X5_straightens v1) (fun v9 =>
 B_X5_print_29 v9)))
set_option maxHeartbeats 4000000 in
theorem K_X5_print {g : xm_G} (hG : xm_Gw g) {h0 : xm_H} {m : Nat} {ad : Nat → Nat} (hM : xM_ok h0 m ad) (hB : xk_B g h0) (p1 : Int32) (σ : xM_S) {o : Int32 × xM_S} (e : F_X5_print p1 σ = some o) {Q : xm_P} {X : xm_X} (hQ : Q (some (.int o.1)) (xMp h0 m ad o.2)) : xm_Run g M_X5_print 13 [.ref m, .int p1] (xMp h0 m ad σ) 0 0 Q X := by
  refine xm_Run.of pn_StringTableauModel (Nat.le_of_ble_eq_true rfl) (fun Γ hΓ => ?_)
  obtain ⟨P0, hP0, hp⟩ : ∃ P : Int32 × xM_S → Prop, (∀ o, P o → Q (some (.int o.1)) (xMp h0 m ad o.2)) ∧ P o := ⟨fun o => Q (some (.int o.1)) (xMp h0 m ad o.2), fun _ h => h, hQ⟩
  clear hQ
  show xm_W g Γ 0 [some (.ref m), some (.int p1), none] [] (xMp h0 m ad σ) 0 0
  have hL_31 : ∀  (s : Int32 × xM_S) (o : Int32 × xM_S), L_X5_print_31  s = some o → P0 o → xm_W g Γ 31 [some (.ref m), none, some (.int s.1)] [] (xMp h0 m ad s.2) 0 0 := by
    skip
    refine xl_rule (WS := fun s : Int32 × xM_S => xm_W g Γ 31 [some (.ref m), none, some (.int s.1)] [] (xMp h0 m ad s.2) 0 0) ?_
    intro s o e hp
    obtain ⟨P1, hP1, hp⟩ : ∃ P : (Int32 × xM_S) ⊕ (Int32 × xM_S) → Prop, (∀ o, P o → xl_P (fun s : Int32 × xM_S => xm_W g Γ 31 [some (.ref m), none, some (.int s.1)] [] (xMp h0 m ad s.2) 0 0) P0 o) ∧ P o := ⟨_, fun _ h => h, hp⟩
    have hB_62 : ∀ (l2 : Int32) (s1 : Int32) (σ : xM_S) (o : (Int32 × xM_S) ⊕ (Int32 × xM_S)), B_X5_print_62 l2 s1 σ = some o → P1 o → xm_W g Γ 62 [some (.ref m), none, some (.int l2)] [.int s1, .ref m] (xMp h0 m ad σ) 0 0 := by
      intro l2 s1 σ o e hp
      unfold B_X5_print_62 at e
      obtain ⟨v4, e1, e⟩ := xo_b_s e
      refine xw_mu1 (show xm_Imp g Γ 62 (xi_vir g 4 M_X5_says 1 1 65) from xs_invV hG hΓ k_X5_says rfl (ci := 4) rfl q3492 q3494 qs114 dX5_print_62) rfl (fun Q X hQ => K_X5_says hG hM hB s1 σ e1 hQ) ?_
      refine xw_ald (show xm_Imp g Γ 65 (xi_ald 0 66) from xs_aload_n hΓ dX5_print_65) rfl ?_
      refine xw_ald (show xm_Imp g Γ 66 (xi_ald 0 67) from xs_aload_n hΓ dX5_print_66) rfl ?_
      refine xw_mga (k := 1) (show xm_Imp g Γ 67 (xi_get 4 1 70) from xs_get hG hΓ (ci := 4) (kf := 1) rfl (Nat.le_of_ble_eq_true rfl) q2851 dX5_print_67) (fun _ => rfl) ?_
      refine xw_psh (v := (.int (6))) (show xm_Imp g Γ 70 (xi_psh (.int (6)) 72) from xs_bipush hΓ dX5_print_70 (by decide)) ?_
      refine xw_ild (show xm_Imp g Γ 72 (xi_ild 2 73) from xs_iload_n hΓ dX5_print_72) rfl ?_
      refine xw_ii (show xm_Imp g Γ 73 (xi_ii (fun x y => x + y) 74) from xs_iadd hΓ dX5_print_73) ?_
      obtain ⟨j5, e1, e⟩ := xo_b_s e
      refine xw_mial (k := 1) (v := (v4.2 1 j5)) (show xm_Imp g Γ 74 (xi_ial 75) from xs_ial hG hΓ dX5_print_74) hM (by decide) rfl e1 rfl ?_
      refine xw_ald (show xm_Imp g Γ 75 (xi_ald 0 76) from xs_aload_n hΓ dX5_print_75) rfl ?_
      refine xw_mga (k := 1) (show xm_Imp g Γ 76 (xi_get 4 1 79) from xs_get hG hΓ (ci := 4) (kf := 1) rfl (Nat.le_of_ble_eq_true rfl) q2851 dX5_print_76) (fun _ => rfl) ?_
      refine xw_psh (v := (.int (14))) (show xm_Imp g Γ 79 (xi_psh (.int (14)) 81) from xs_bipush hΓ dX5_print_79 (by decide)) ?_
      refine xw_ild (show xm_Imp g Γ 81 (xi_ild 2 82) from xs_iload_n hΓ dX5_print_81) rfl ?_
      refine xw_ii (show xm_Imp g Γ 82 (xi_ii (fun x y => x + y) 83) from xs_iadd hΓ dX5_print_82) ?_
      obtain ⟨j6, e1, e⟩ := xo_b_s e
      refine xw_mial (k := 1) (v := (v4.2 1 j6)) (show xm_Imp g Γ 83 (xi_ial 84) from xs_ial hG hΓ dX5_print_83) hM (by decide) rfl e1 rfl ?_
      obtain ⟨v7, e1, e⟩ := xo_b_s e
      refine xw_mu2 (show xm_Imp g Γ 84 (xi_vir g 4 M_X5_saysLetters 12 2 87) from xs_invV hG hΓ k_X5_saysLetters rfl (ci := 4) rfl q3496 q3498 qs115 dX5_print_84) rfl (fun Q X hQ => K_X5_saysLetters hG hM hB (v4.2 1 j5) (v4.2 1 j6) v4 e1 hQ) ?_
      refine xw_ald (show xm_Imp g Γ 87 (xi_ald 0 88) from xs_aload_n hΓ dX5_print_87) rfl ?_
      refine xw_psh (v := (.int (10))) (show xm_Imp g Γ 88 (xi_psh (.int (10)) 90) from xs_bipush hΓ dX5_print_88 (by decide)) ?_
      obtain ⟨v8, e1, e⟩ := xo_b_s e
      refine xw_mu1 (show xm_Imp g Γ 90 (xi_vir g 4 M_X5_says 1 1 93) from xs_invV hG hΓ k_X5_says rfl (ci := 4) rfl q3492 q3494 qs114 dX5_print_90) rfl (fun Q X hQ => K_X5_says hG hM hB 10 v7 e1 hQ) ?_
      refine xw_inc (v := (1)) (ls' := [some (.ref m), none, some (.int (l2 + 1))]) (show xm_Imp g Γ 93 (xi_inc 2 (1) 96) from xs_iinc hΓ dX5_print_93 (by decide) (Nat.le_of_ble_eq_true rfl)) rfl rfl ?_
      refine xw_goto (show xm_Imp g Γ 96 (xi_goto 31) from xs_goto hΓ dX5_print_96 (by decide)) ?_
      have hq := xl_P_inl (hP1 _ (xl_fin e hp)); exact hq
    unfold D_X5_print_31 at e
    refine xw_ild (show xm_Imp g Γ 31 (xi_ild 2 32) from xs_iload_n hΓ dX5_print_31) rfl ?_
    refine xw_ald (show xm_Imp g Γ 32 (xi_ald 0 33) from xs_aload_n hΓ dX5_print_32) rfl ?_
    refine xw_mga (k := 1) (show xm_Imp g Γ 33 (xi_get 4 1 36) from xs_get hG hΓ (ci := 4) (kf := 1) rfl (Nat.le_of_ble_eq_true rfl) q2851 dX5_print_33) (fun _ => rfl) ?_
    refine xw_psh (v := (.int (0))) (show xm_Imp g Γ 36 (xi_psh (.int (0)) 37) from xs_iconst hΓ dX5_print_36 (by decide)) ?_
    refine xw_mial (k := 1) (j := 0) (v := (s.2.2 1 0)) (show xm_Imp g Γ 37 (xi_ial 38) from xs_ial hG hΓ dX5_print_37) hM (by decide) rfl rfl rfl ?_
    refine xw_ic (show xm_Imp g Γ 38 (xi_ic (fun x y => y ≤ x) 99 41) from xs_icmp_ge hΓ dX5_print_38 (by decide)) (fun c => ?_) (fun c => ?_)
    · rw [if_pos c] at e
      obtain ⟨_, e, hp⟩ := xl_o_s e (hP1 _ hp)
      refine xw_ald (show xm_Imp g Γ 99 (xi_ald 0 100) from xs_aload_n hΓ dX5_print_99) rfl ?_
      refine xw_mga (k := 3) (show xm_Imp g Γ 100 (xi_get 4 3 103) from xs_get hG hΓ (ci := 4) (kf := 3) rfl (Nat.le_of_ble_eq_true rfl) q2853 dX5_print_100) (fun _ => rfl) ?_
      refine xw_ald (show xm_Imp g Γ 103 (xi_ald 0 104) from xs_aload_n hΓ dX5_print_103) rfl ?_
      refine xw_mga (k := 1) (show xm_Imp g Γ 104 (xi_get 4 1 107) from xs_get hG hΓ (ci := 4) (kf := 1) rfl (Nat.le_of_ble_eq_true rfl) q2851 dX5_print_104) (fun _ => rfl) ?_
      obtain ⟨v2, e1, e⟩ := xo_b_s e
      refine xw_su2 (show xm_Imp g Γ 107 (xi_inv g M_X5_copies 1 2 110) from xs_invS hG hΓ k_X5_copies rfl q3011 q3012 dX5_print_107) rfl (fun Q X hQ => K_X5_copies hG hM hB 3 1 (by decide) (by decide) s.2 e1 hQ) ?_
      refine xw_ald (show xm_Imp g Γ 110 (xi_ald 0 111) from xs_aload_n hΓ dX5_print_110) rfl ?_
      refine xw_mgi (v := (v2.1 41)) (show xm_Imp g Γ 111 (xi_get 4 41 114) from xs_get hG hΓ (ci := 4) (kf := 41) rfl (Nat.le_of_ble_eq_true rfl) q2891 dX5_print_111) (fun _ => rfl) rfl ?_
      exact xw_iret (show xm_Imp g Γ 114 (xi_iret .int _) from xs_ireturn hΓ rfl dX5_print_114) (xn_int _) (hP0 _ (xl_fin e hp))
    · rw [if_neg c] at e
      refine xw_ald (show xm_Imp g Γ 41 (xi_ald 0 42) from xs_aload_n hΓ dX5_print_41) rfl ?_
      refine xw_ald (show xm_Imp g Γ 42 (xi_ald 0 43) from xs_aload_n hΓ dX5_print_42) rfl ?_
      refine xw_mga (k := 1) (show xm_Imp g Γ 43 (xi_get 4 1 46) from xs_get hG hΓ (ci := 4) (kf := 1) rfl (Nat.le_of_ble_eq_true rfl) q2851 dX5_print_43) (fun _ => rfl) ?_
      refine xw_psh (v := (.int (22))) (show xm_Imp g Γ 46 (xi_psh (.int (22)) 48) from xs_bipush hΓ dX5_print_46 (by decide)) ?_
      refine xw_ild (show xm_Imp g Γ 48 (xi_ild 2 49) from xs_iload_n hΓ dX5_print_48) rfl ?_
      refine xw_ii (show xm_Imp g Γ 49 (xi_ii (fun x y => x + y) 50) from xs_iadd hΓ dX5_print_49) ?_
      obtain ⟨j3, e1, e⟩ := xo_b_s e
      refine xw_mial (k := 1) (v := (s.2.2 1 j3)) (show xm_Imp g Γ 50 (xi_ial 51) from xs_ial hG hΓ dX5_print_50) hM (by decide) rfl e1 rfl ?_
      refine xw_psh (v := (.int (1))) (show xm_Imp g Γ 51 (xi_psh (.int (1)) 52) from xs_iconst hΓ dX5_print_51 (by decide)) ?_
      refine xw_ic (show xm_Imp g Γ 52 (xi_ic (fun x y => x = y) 55 60) from xs_icmp_ne hΓ dX5_print_52 (by decide)) (fun c => ?_) (fun c => ?_)
      · rw [if_pos c] at e
        refine xw_psh (v := (.int (45))) (show xm_Imp g Γ 55 (xi_psh (.int (45)) 57) from xs_bipush hΓ dX5_print_55 (by decide)) ?_
        refine xw_goto (show xm_Imp g Γ 57 (xi_goto 62) from xs_goto hΓ dX5_print_57 (by decide)) ?_
        exact hB_62 _ _ _ _ e hp
      · rw [if_neg c] at e
        refine xw_psh (v := (.int (43))) (show xm_Imp g Γ 60 (xi_psh (.int (43)) 62) from xs_bipush hΓ dX5_print_60 (by decide)) ?_
        exact hB_62 _ _ _ _ e hp
  have hB_29 : ∀ (σ : xM_S) (o : Int32 × xM_S), B_X5_print_29 σ = some o → P0 o → xm_W g Γ 29 [some (.ref m), none, none] [] (xMp h0 m ad σ) 0 0 := by
    intro σ o e hp
    unfold B_X5_print_29 at e
    refine xw_psh (v := (.int (0))) (show xm_Imp g Γ 29 (xi_psh (.int (0)) 30) from xs_iconst hΓ dX5_print_29 (by decide)) ?_
    refine xw_ist (ls' := [some (.ref m), none, some (.int 0)]) (show xm_Imp g Γ 30 (xi_ist 2 31) from xs_istore_n hΓ dX5_print_30 (Nat.le_of_ble_eq_true rfl)) rfl ?_
    exact hL_31 _ _ e hp
  unfold F_X5_print at e
  refine xw_ald (show xm_Imp g Γ 0 (xi_ald 0 1) from xs_aload_n hΓ dX5_print_0) rfl ?_
  refine xw_psh (v := (.int (0))) (show xm_Imp g Γ 1 (xi_psh (.int (0)) 2) from xs_iconst hΓ dX5_print_1 (by decide)) ?_
  refine xw_mpi (show xm_Imp g Γ 2 (xi_put 4 0 (.int) 5) from xs_put hG hΓ (ci := 4) (kf := 0) rfl (Nat.le_of_ble_eq_true rfl) rfl (by decide +kernel) q2850 dX5_print_2) (fun _ _ => rfl) ⟨rfl, rfl⟩ ?_
  refine xw_ald (show xm_Imp g Γ 5 (xi_ald 0 6) from xs_aload_n hΓ dX5_print_5) rfl ?_
  refine xw_psh (v := (.int (0))) (show xm_Imp g Γ 6 (xi_psh (.int (0)) 7) from xs_iconst hΓ dX5_print_6 (by decide)) ?_
  refine xw_mpi (show xm_Imp g Γ 7 (xi_put 4 41 (.int) 10) from xs_put hG hΓ (ci := 4) (kf := 41) rfl (Nat.le_of_ble_eq_true rfl) rfl (by decide +kernel) q2891 dX5_print_7) (fun _ _ => rfl) ⟨rfl, rfl⟩ ?_
  refine xw_ald (show xm_Imp g Γ 10 (xi_ald 0 11) from xs_aload_n hΓ dX5_print_10) rfl ?_
  refine xw_mga (k := 1) (show xm_Imp g Γ 11 (xi_get 4 1 14) from xs_get hG hΓ (ci := 4) (kf := 1) rfl (Nat.le_of_ble_eq_true rfl) q2851 dX5_print_11) (fun _ => rfl) ?_
  refine xw_ald (show xm_Imp g Γ 14 (xi_ald 0 15) from xs_aload_n hΓ dX5_print_14) rfl ?_
  refine xw_mga (k := 3) (show xm_Imp g Γ 15 (xi_get 4 3 18) from xs_get hG hΓ (ci := 4) (kf := 3) rfl (Nat.le_of_ble_eq_true rfl) q2853 dX5_print_15) (fun _ => rfl) ?_
  obtain ⟨v1, e1, e⟩ := xo_b_s e
  refine xw_su2 (show xm_Imp g Γ 18 (xi_inv g M_X5_copies 1 2 21) from xs_invS hG hΓ k_X5_copies rfl q3011 q3012 dX5_print_18) rfl (fun Q X hQ => K_X5_copies hG hM hB 1 3 (by decide) (by decide) (xM_f (xM_f σ 0 0) 41 0) e1 hQ) ?_
  refine xw_ild (show xm_Imp g Γ 21 (xi_ild 1 22) from xs_iload_n hΓ dX5_print_21) rfl ?_
  refine xw_if (show xm_Imp g Γ 22 (xi_if (fun x => x = 0) 29 25) from xs_if_eq hΓ dX5_print_22 (by decide)) (fun c => ?_) (fun c => ?_)
  · rw [if_pos c] at e
    exact xm_lx (hB_29 _ _ e hp) (And.intro rfl (trivial))
  · rw [if_neg c] at e
    refine xw_ald (show xm_Imp g Γ 25 (xi_ald 0 26) from xs_aload_n hΓ dX5_print_25) rfl ?_
    obtain ⟨v9, e1, e⟩ := xo_b_s e
    refine xw_mu0 (show xm_Imp g Γ 26 (xi_vir g 4 M_X5_straightens 7 0 29) from xs_invV hG hΓ k_X5_straightens rfl (ci := 4) rfl q3272 q3274 qs93 dX5_print_26) rfl (fun Q X hQ => K_X5_straightens hG hM hB v1 e1 hQ) ?_
    exact xm_lx (hB_29 _ _ e hp) (And.intro rfl (trivial))
noncomputable def D_X5_saysWord_31  (s : Int32 × xM_S) : Option ((Int32 × xM_S) ⊕ (xM_S)) :=
 xo_b (xk_ch xk_W s.1) (fun v1 =>
 (if v1 = 32 then
 xl_o (some s.2) else
 xo_b (xk_ch xk_W s.1) (fun v2 =>
 xo_b (F_X5_says v2 s.2) (fun v3 =>
 some (Sum.inl (s.1 + 1, v3))))))
noncomputable def L_X5_saysWord_31  (s : Int32 × xM_S) : Option (xM_S) := xl_loop (D_X5_saysWord_31 ) s
noncomputable def B_X5_saysWord_25 (l1 : Int32) (l2 : Int32) (l3 : Int32) (σ : xM_S) : Option ((Int32 × Int32) ⊕ (xM_S)) :=
 some (Sum.inl (l2 + 1, l3))
noncomputable def D_X5_saysWord_4 (l1 : Int32) (σ : xM_S) (s : Int32 × Int32) : Option ((Int32 × Int32) ⊕ (xM_S)) :=
 (if l1 ≤ s.2 then
 xl_o (L_X5_saysWord_31 (s.1, σ)) else
 xo_b (xk_ch xk_W s.1) (fun v4 =>
 B_X5_saysWord_25 l1 s.1 (if v4 = 32 then s.2 + 1 else s.2) σ))
noncomputable def L_X5_saysWord_4 (l1 : Int32) (σ : xM_S) (s : Int32 × Int32) : Option (xM_S) := xl_loop (D_X5_saysWord_4 l1 σ) s
noncomputable def F_X5_saysWord (p1 : Int32) (σ : xM_S) : Option (xM_S) :=
 L_X5_saysWord_4 p1 σ (0, 0)
set_option maxHeartbeats 4000000 in
theorem K_X5_saysWord {g : xm_G} (hG : xm_Gw g) {h0 : xm_H} {m : Nat} {ad : Nat → Nat} (hM : xM_ok h0 m ad) (hB : xk_B g h0) (p1 : Int32) (σ : xM_S) {o : xM_S} (e : F_X5_saysWord p1 σ = some o) {Q : xm_P} {X : xm_X} (hQ : Q none (xMp h0 m ad o)) : xm_Run g M_X5_saysWord 12 [.ref m, .int p1] (xMp h0 m ad σ) 0 0 Q X := by
  refine xm_Run.of pn_StringTableauModel (Nat.le_of_ble_eq_true rfl) (fun Γ hΓ => ?_)
  obtain ⟨P0, hP0, hp⟩ : ∃ P : xM_S → Prop, (∀ o, P o → Q none (xMp h0 m ad o)) ∧ P o := ⟨fun o => Q none (xMp h0 m ad o), fun _ h => h, hQ⟩
  clear hQ
  show xm_W g Γ 0 [some (.ref m), some (.int p1), none, none] [] (xMp h0 m ad σ) 0 0
  have hL_31 : ∀  (s : Int32 × xM_S) (o : xM_S), L_X5_saysWord_31  s = some o → P0 o → xm_W g Γ 31 [some (.ref m), none, some (.int s.1), none] [] (xMp h0 m ad s.2) 0 0 := by
    skip
    refine xl_rule (WS := fun s : Int32 × xM_S => xm_W g Γ 31 [some (.ref m), none, some (.int s.1), none] [] (xMp h0 m ad s.2) 0 0) ?_
    intro s o e hp
    obtain ⟨P1, hP1, hp⟩ : ∃ P : (Int32 × xM_S) ⊕ (xM_S) → Prop, (∀ o, P o → xl_P (fun s : Int32 × xM_S => xm_W g Γ 31 [some (.ref m), none, some (.int s.1), none] [] (xMp h0 m ad s.2) 0 0) P0 o) ∧ P o := ⟨_, fun _ h => h, hp⟩
    unfold D_X5_saysWord_31 at e
    refine xw_psh (v := (.ref (xm_sa g "StringTableauModel" 271))) (show xm_Imp g Γ 31 (xi_psh (.ref (xm_sa g "StringTableauModel" 271)) 34) from xs_ldSw hG hΓ q3191 dX5_saysWord_31) ?_
    refine xw_ild (show xm_Imp g Γ 34 (xi_ild 2 35) from xs_iload_n hΓ dX5_saysWord_34) rfl ?_
    obtain ⟨v1, e1, e⟩ := xo_b_s e
    refine xw_mch (tx := xk_W) hG (show xm_Imp g Γ 35 (xi_vir g 15 M_J6_charAt 11 1 38) from xs_invV hG hΓ k_J6_charAt rfl (ci := 15) rfl q3193 q928 q929 dX5_saysWord_35) hM hB (by decide) rfl e1 ?_
    refine xw_psh (v := (.int (32))) (show xm_Imp g Γ 38 (xi_psh (.int (32)) 40) from xs_bipush hΓ dX5_saysWord_38 (by decide)) ?_
    refine xw_ic (show xm_Imp g Γ 40 (xi_ic (fun x y => x = y) 60 43) from xs_icmp_eq hΓ dX5_saysWord_40 (by decide)) (fun c => ?_) (fun c => ?_)
    · rw [if_pos c] at e
      obtain ⟨_, e, hp⟩ := xl_o_s e (hP1 _ hp)
      exact xw_vret (show xm_Imp g Γ 60 (xi_vret _) from xs_return hΓ rfl dX5_saysWord_60) (hP0 _ (xl_fin e hp))
    · rw [if_neg c] at e
      refine xw_ald (show xm_Imp g Γ 43 (xi_ald 0 44) from xs_aload_n hΓ dX5_saysWord_43) rfl ?_
      refine xw_psh (v := (.ref (xm_sa g "StringTableauModel" 271))) (show xm_Imp g Γ 44 (xi_psh (.ref (xm_sa g "StringTableauModel" 271)) 47) from xs_ldSw hG hΓ q3191 dX5_saysWord_44) ?_
      refine xw_ild (show xm_Imp g Γ 47 (xi_ild 2 48) from xs_iload_n hΓ dX5_saysWord_47) rfl ?_
      obtain ⟨v2, e1, e⟩ := xo_b_s e
      refine xw_mch (tx := xk_W) hG (show xm_Imp g Γ 48 (xi_vir g 15 M_J6_charAt 11 1 51) from xs_invV hG hΓ k_J6_charAt rfl (ci := 15) rfl q3193 q928 q929 dX5_saysWord_48) hM hB (by decide) rfl e1 ?_
      obtain ⟨v3, e1, e⟩ := xo_b_s e
      refine xw_mu1 (show xm_Imp g Γ 51 (xi_vir g 4 M_X5_says 1 1 54) from xs_invV hG hΓ k_X5_says rfl (ci := 4) rfl q3492 q3494 qs114 dX5_saysWord_51) rfl (fun Q X hQ => K_X5_says hG hM hB v2 s.2 e1 hQ) ?_
      refine xw_inc (v := (1)) (ls' := [some (.ref m), none, some (.int (s.1 + 1)), none]) (show xm_Imp g Γ 54 (xi_inc 2 (1) 57) from xs_iinc hΓ dX5_saysWord_54 (by decide) (Nat.le_of_ble_eq_true rfl)) rfl rfl ?_
      refine xw_goto (show xm_Imp g Γ 57 (xi_goto 31) from xs_goto hΓ dX5_saysWord_57 (by decide)) ?_
      have hq := xl_P_inl (hP1 _ (xl_fin e hp)); exact hq
  have hL_4 : ∀ (l1 : Int32) (σ : xM_S) (s : Int32 × Int32) (o : xM_S), L_X5_saysWord_4 l1 σ s = some o → P0 o → xm_W g Γ 4 [some (.ref m), some (.int l1), some (.int s.1), some (.int s.2)] [] (xMp h0 m ad σ) 0 0 := by
    intro l1 σ
    refine xl_rule (WS := fun s : Int32 × Int32 => xm_W g Γ 4 [some (.ref m), some (.int l1), some (.int s.1), some (.int s.2)] [] (xMp h0 m ad σ) 0 0) ?_
    intro s o e hp
    obtain ⟨P1, hP1, hp⟩ : ∃ P : (Int32 × Int32) ⊕ (xM_S) → Prop, (∀ o, P o → xl_P (fun s : Int32 × Int32 => xm_W g Γ 4 [some (.ref m), some (.int l1), some (.int s.1), some (.int s.2)] [] (xMp h0 m ad σ) 0 0) P0 o) ∧ P o := ⟨_, fun _ h => h, hp⟩
    have hB_25 : ∀ (l2 : Int32) (l3 : Int32) (o : (Int32 × Int32) ⊕ (xM_S)), B_X5_saysWord_25 l1 l2 l3 σ = some o → P1 o → xm_W g Γ 25 [some (.ref m), some (.int l1), some (.int l2), some (.int l3)] [] (xMp h0 m ad σ) 0 0 := by
      intro l2 l3 o e hp
      unfold B_X5_saysWord_25 at e
      refine xw_inc (v := (1)) (ls' := [some (.ref m), some (.int l1), some (.int (l2 + 1)), some (.int l3)]) (show xm_Imp g Γ 25 (xi_inc 2 (1) 28) from xs_iinc hΓ dX5_saysWord_25 (by decide) (Nat.le_of_ble_eq_true rfl)) rfl rfl ?_
      refine xw_goto (show xm_Imp g Γ 28 (xi_goto 4) from xs_goto hΓ dX5_saysWord_28 (by decide)) ?_
      have hq := xl_P_inl (hP1 _ (xl_fin e hp)); exact hq
    unfold D_X5_saysWord_4 at e
    refine xw_ild (show xm_Imp g Γ 4 (xi_ild 3 5) from xs_iload_n hΓ dX5_saysWord_4) rfl ?_
    refine xw_ild (show xm_Imp g Γ 5 (xi_ild 1 6) from xs_iload_n hΓ dX5_saysWord_5) rfl ?_
    refine xw_ic (show xm_Imp g Γ 6 (xi_ic (fun x y => y ≤ x) 31 9) from xs_icmp_ge hΓ dX5_saysWord_6 (by decide)) (fun c => ?_) (fun c => ?_)
    · rw [if_pos c] at e
      obtain ⟨_, e, hp⟩ := xl_o_s e (hP1 _ hp)
      exact xm_lx (hL_31 _ _ e hp) (And.intro rfl (And.intro rfl (trivial)))
    · rw [if_neg c] at e
      refine xw_psh (v := (.ref (xm_sa g "StringTableauModel" 271))) (show xm_Imp g Γ 9 (xi_psh (.ref (xm_sa g "StringTableauModel" 271)) 12) from xs_ldSw hG hΓ q3191 dX5_saysWord_9) ?_
      refine xw_ild (show xm_Imp g Γ 12 (xi_ild 2 13) from xs_iload_n hΓ dX5_saysWord_12) rfl ?_
      obtain ⟨v4, e1, e⟩ := xo_b_s e
      refine xw_mch (tx := xk_W) hG (show xm_Imp g Γ 13 (xi_vir g 15 M_J6_charAt 11 1 16) from xs_invV hG hΓ k_J6_charAt rfl (ci := 15) rfl q3193 q928 q929 dX5_saysWord_13) hM hB (by decide) rfl e1 ?_
      refine xw_psh (v := (.int (32))) (show xm_Imp g Γ 16 (xi_psh (.int (32)) 18) from xs_bipush hΓ dX5_saysWord_16 (by decide)) ?_
      refine xw_ic (show xm_Imp g Γ 18 (xi_ic (fun x y => x = y) 21 25) from xs_icmp_ne hΓ dX5_saysWord_18 (by decide)) (fun c => ?_) (fun c => ?_)
      · rw [if_pos c] at e
        refine xw_ild (show xm_Imp g Γ 21 (xi_ild 3 22) from xs_iload_n hΓ dX5_saysWord_21) rfl ?_
        refine xw_psh (v := (.int (1))) (show xm_Imp g Γ 22 (xi_psh (.int (1)) 23) from xs_iconst hΓ dX5_saysWord_22 (by decide)) ?_
        refine xw_ii (show xm_Imp g Γ 23 (xi_ii (fun x y => x + y) 24) from xs_iadd hΓ dX5_saysWord_23) ?_
        refine xw_ist (ls' := [some (.ref m), some (.int l1), some (.int s.1), some (.int (s.2 + 1))]) (show xm_Imp g Γ 24 (xi_ist 3 25) from xs_istore_n hΓ dX5_saysWord_24 (Nat.le_of_ble_eq_true rfl)) rfl ?_
        exact hB_25 _ _ _ e hp
      · rw [if_neg c] at e
        exact hB_25 _ _ _ e hp
  unfold F_X5_saysWord at e
  refine xw_psh (v := (.int (0))) (show xm_Imp g Γ 0 (xi_psh (.int (0)) 1) from xs_iconst hΓ dX5_saysWord_0 (by decide)) ?_
  refine xw_ist (ls' := [some (.ref m), some (.int p1), some (.int 0), none]) (show xm_Imp g Γ 1 (xi_ist 2 2) from xs_istore_n hΓ dX5_saysWord_1 (Nat.le_of_ble_eq_true rfl)) rfl ?_
  refine xw_psh (v := (.int (0))) (show xm_Imp g Γ 2 (xi_psh (.int (0)) 3) from xs_iconst hΓ dX5_saysWord_2 (by decide)) ?_
  refine xw_ist (ls' := [some (.ref m), some (.int p1), some (.int 0), some (.int 0)]) (show xm_Imp g Γ 3 (xi_ist 3 4) from xs_istore_n hΓ dX5_saysWord_3 (Nat.le_of_ble_eq_true rfl)) rfl ?_
  exact hL_4 _ _ _ _ e hp
noncomputable def B_X5_saysNumber_14 (l1 : Int32) (σ : xM_S) : Option (xM_S) :=
 xo_b (F_X5_says (48 + (l1 - l1 / 10 * 10)) σ) (fun v1 =>
 some v1)
noncomputable def F_X5_saysNumber_b (p1 : Int32) (σ : xM_S) : Option (xM_S) :=
 (if p1 < 10 then
 B_X5_saysNumber_14 p1 σ else
 none)
set_option maxHeartbeats 4000000 in
theorem K_X5_saysNumber_b {g : xm_G} (hG : xm_Gw g) {h0 : xm_H} {m : Nat} {ad : Nat → Nat} (hM : xM_ok h0 m ad) (hB : xk_B g h0) (p1 : Int32) (σ : xM_S) {o : xM_S} (e : F_X5_saysNumber_b p1 σ = some o) {Q : xm_P} {X : xm_X} (hQ : Q none (xMp h0 m ad o)) : xm_Run g M_X5_saysNumber 2 [.ref m, .int p1] (xMp h0 m ad σ) 0 0 Q X := by
  refine xm_Run.of pn_StringTableauModel (Nat.le_of_ble_eq_true rfl) (fun Γ hΓ => ?_)
  obtain ⟨P0, hP0, hp⟩ : ∃ P : xM_S → Prop, (∀ o, P o → Q none (xMp h0 m ad o)) ∧ P o := ⟨fun o => Q none (xMp h0 m ad o), fun _ h => h, hQ⟩
  clear hQ
  show xm_W g Γ 0 [some (.ref m), some (.int p1)] [] (xMp h0 m ad σ) 0 0
  have hB_14 : ∀ (l1 : Int32) (σ : xM_S) (o : xM_S), B_X5_saysNumber_14 l1 σ = some o → P0 o → xm_W g Γ 14 [some (.ref m), some (.int l1)] [] (xMp h0 m ad σ) 0 0 := by
    intro l1 σ o e hp
    unfold B_X5_saysNumber_14 at e
    refine xw_ald (show xm_Imp g Γ 14 (xi_ald 0 15) from xs_aload_n hΓ dX5_saysNumber_14) rfl ?_
    refine xw_psh (v := (.int (48))) (show xm_Imp g Γ 15 (xi_psh (.int (48)) 17) from xs_bipush hΓ dX5_saysNumber_15 (by decide)) ?_
    refine xw_ild (show xm_Imp g Γ 17 (xi_ild 1 18) from xs_iload_n hΓ dX5_saysNumber_17) rfl ?_
    refine xw_psh (v := (.int (10))) (show xm_Imp g Γ 18 (xi_psh (.int (10)) 20) from xs_bipush hΓ dX5_saysNumber_18 (by decide)) ?_
    refine xw_id (show xm_Imp g Γ 20 (xi_id (fun x y => x - x / y * y) 21) from xs_irem hΓ dX5_saysNumber_20) (by decide) ?_
    refine xw_ii (show xm_Imp g Γ 21 (xi_ii (fun x y => x + y) 22) from xs_iadd hΓ dX5_saysNumber_21) ?_
    obtain ⟨v1, e1, e⟩ := xo_b_s e
    refine xw_mu1 (show xm_Imp g Γ 22 (xi_vir g 4 M_X5_says 1 1 25) from xs_invV hG hΓ k_X5_says rfl (ci := 4) rfl q3492 q3494 qs114 dX5_saysNumber_22) rfl (fun Q X hQ => K_X5_says hG hM hB (48 + (l1 - l1 / 10 * 10)) σ e1 hQ) ?_
    exact xw_vret (show xm_Imp g Γ 25 (xi_vret _) from xs_return hΓ rfl dX5_saysNumber_25) (hP0 _ (xl_fin e hp))
  unfold F_X5_saysNumber_b at e
  refine xw_ild (show xm_Imp g Γ 0 (xi_ild 1 1) from xs_iload_n hΓ dX5_saysNumber_0) rfl ?_
  refine xw_psh (v := (.int (10))) (show xm_Imp g Γ 1 (xi_psh (.int (10)) 3) from xs_bipush hΓ dX5_saysNumber_1 (by decide)) ?_
  refine xw_ic (show xm_Imp g Γ 3 (xi_ic (fun x y => x < y) 14 6) from xs_icmp_lt hΓ dX5_saysNumber_3 (by decide)) (fun c => ?_) (fun c => ?_)
  · rw [if_pos c] at e
    exact hB_14 _ _ _ e hp
  · rw [if_neg c] at e
    refine xw_ald (show xm_Imp g Γ 6 (xi_ald 0 7) from xs_aload_n hΓ dX5_saysNumber_6) rfl ?_
    refine xw_ild (show xm_Imp g Γ 7 (xi_ild 1 8) from xs_iload_n hΓ dX5_saysNumber_7) rfl ?_
    refine xw_psh (v := (.int (10))) (show xm_Imp g Γ 8 (xi_psh (.int (10)) 10) from xs_bipush hΓ dX5_saysNumber_8 (by decide)) ?_
    refine xw_id (show xm_Imp g Γ 10 (xi_id (fun x y => x / y) 11) from xs_idiv hΓ dX5_saysNumber_10) (by decide) ?_
    cases e
noncomputable def F_X5_saysNumber (p1 : Int32) (σ : xM_S) : Option (xM_S) :=
 (if p1 < 10 then
 B_X5_saysNumber_14 p1 σ else
 xo_b (F_X5_saysNumber_b (p1 / 10) σ) (fun v2 =>
 B_X5_saysNumber_14 p1 v2))
set_option maxHeartbeats 4000000 in
theorem K_X5_saysNumber {g : xm_G} (hG : xm_Gw g) {h0 : xm_H} {m : Nat} {ad : Nat → Nat} (hM : xM_ok h0 m ad) (hB : xk_B g h0) (p1 : Int32) (σ : xM_S) {o : xM_S} (e : F_X5_saysNumber p1 σ = some o) {Q : xm_P} {X : xm_X} (hQ : Q none (xMp h0 m ad o)) : xm_Run g M_X5_saysNumber 3 [.ref m, .int p1] (xMp h0 m ad σ) 0 0 Q X := by
  refine xm_Run.of pn_StringTableauModel (Nat.le_of_ble_eq_true rfl) (fun Γ hΓ => ?_)
  obtain ⟨P0, hP0, hp⟩ : ∃ P : xM_S → Prop, (∀ o, P o → Q none (xMp h0 m ad o)) ∧ P o := ⟨fun o => Q none (xMp h0 m ad o), fun _ h => h, hQ⟩
  clear hQ
  show xm_W g Γ 0 [some (.ref m), some (.int p1)] [] (xMp h0 m ad σ) 0 0
  have hB_14 : ∀ (l1 : Int32) (σ : xM_S) (o : xM_S), B_X5_saysNumber_14 l1 σ = some o → P0 o → xm_W g Γ 14 [some (.ref m), some (.int l1)] [] (xMp h0 m ad σ) 0 0 := by
    intro l1 σ o e hp
    unfold B_X5_saysNumber_14 at e
    refine xw_ald (show xm_Imp g Γ 14 (xi_ald 0 15) from xs_aload_n hΓ dX5_saysNumber_14) rfl ?_
    refine xw_psh (v := (.int (48))) (show xm_Imp g Γ 15 (xi_psh (.int (48)) 17) from xs_bipush hΓ dX5_saysNumber_15 (by decide)) ?_
    refine xw_ild (show xm_Imp g Γ 17 (xi_ild 1 18) from xs_iload_n hΓ dX5_saysNumber_17) rfl ?_
    refine xw_psh (v := (.int (10))) (show xm_Imp g Γ 18 (xi_psh (.int (10)) 20) from xs_bipush hΓ dX5_saysNumber_18 (by decide)) ?_
    refine xw_id (show xm_Imp g Γ 20 (xi_id (fun x y => x - x / y * y) 21) from xs_irem hΓ dX5_saysNumber_20) (by decide) ?_
    refine xw_ii (show xm_Imp g Γ 21 (xi_ii (fun x y => x + y) 22) from xs_iadd hΓ dX5_saysNumber_21) ?_
    obtain ⟨v1, e1, e⟩ := xo_b_s e
    refine xw_mu1 (show xm_Imp g Γ 22 (xi_vir g 4 M_X5_says 1 1 25) from xs_invV hG hΓ k_X5_says rfl (ci := 4) rfl q3492 q3494 qs114 dX5_saysNumber_22) rfl (fun Q X hQ => K_X5_says hG hM hB (48 + (l1 - l1 / 10 * 10)) σ e1 hQ) ?_
    exact xw_vret (show xm_Imp g Γ 25 (xi_vret _) from xs_return hΓ rfl dX5_saysNumber_25) (hP0 _ (xl_fin e hp))
  unfold F_X5_saysNumber at e
  refine xw_ild (show xm_Imp g Γ 0 (xi_ild 1 1) from xs_iload_n hΓ dX5_saysNumber_0) rfl ?_
  refine xw_psh (v := (.int (10))) (show xm_Imp g Γ 1 (xi_psh (.int (10)) 3) from xs_bipush hΓ dX5_saysNumber_1 (by decide)) ?_
  refine xw_ic (show xm_Imp g Γ 3 (xi_ic (fun x y => x < y) 14 6) from xs_icmp_lt hΓ dX5_saysNumber_3 (by decide)) (fun c => ?_) (fun c => ?_)
  · rw [if_pos c] at e
    exact hB_14 _ _ _ e hp
  · rw [if_neg c] at e
    refine xw_ald (show xm_Imp g Γ 6 (xi_ald 0 7) from xs_aload_n hΓ dX5_saysNumber_6) rfl ?_
    refine xw_ild (show xm_Imp g Γ 7 (xi_ild 1 8) from xs_iload_n hΓ dX5_saysNumber_7) rfl ?_
    refine xw_psh (v := (.int (10))) (show xm_Imp g Γ 8 (xi_psh (.int (10)) 10) from xs_bipush hΓ dX5_saysNumber_8 (by decide)) ?_
    refine xw_id (show xm_Imp g Γ 10 (xi_id (fun x y => x / y) 11) from xs_idiv hΓ dX5_saysNumber_10) (by decide) ?_
    obtain ⟨v2, e1, e⟩ := xo_b_s e
    refine xw_mu1 (show xm_Imp g Γ 11 (xi_vir g 4 M_X5_saysNumber 2 1 14) from xs_invV hG hΓ k_X5_saysNumber rfl (ci := 4) rfl q3513 q3515 qs118 dX5_saysNumber_11) rfl (fun Q X hQ => K_X5_saysNumber_b hG hM hB (p1 / 10) σ e1 hQ) ?_
    exact hB_14 _ _ _ e hp
noncomputable def B_X5_saysOperation_120 (σ : xM_S) : Option (xM_S) :=
 xo_b (F_X5_says 59 σ) (fun v9 =>
 some v9)
noncomputable def B_X5_saysOperation_38 (l1 : Int32) (σ : xM_S) : Option (xM_S) :=
 xo_b (xa_ix 60 l1) (fun j2 =>
 xo_b (F_X5_saysWord (σ.2 9 j2) σ) (fun v3 =>
 xo_b (F_X5_says 32 v3) (fun v4 =>
 xo_b (xa_ix 60 l1) (fun j5 =>
 (if (v4.2 9 j5) = 9 then
 xo_b (xa_ix 60 l1) (fun j6 =>
 xo_b (xa_ix 60 l1) (fun j7 =>
 xo_b (F_X5_saysLetters (v4.2 13 j6) (v4.2 14 j7) v4) (fun v8 =>
 B_X5_saysOperation_120 v8))) else
 xo_b (xa_ix 60 l1) (fun j10 =>
 xo_b (F_X5_saysNumber (v4.2 10 j10) v4) (fun v11 =>
 xo_b (xa_ix 60 l1) (fun j12 =>
 (if (v11.2 11 j12) = (-1) then
 B_X5_saysOperation_120 v11 else
 xo_b (F_X5_says 32 v11) (fun v13 =>
 xo_b (xa_ix 60 l1) (fun j14 =>
 xo_b (F_X5_saysNumber (v13.2 11 j14) v13) (fun v15 =>
 B_X5_saysOperation_120 v15))))))))))))
noncomputable def F_X5_saysOperation (p1 : Int32) (σ : xM_S) : Option (xM_S) :=
 xo_b (xa_ix 60 p1) (fun j1 =>
 (if (σ.2 12 j1) = (-1) then
 B_X5_saysOperation_38 p1 σ else
 xo_b (F_X5_saysWord 10 σ) (fun v16 =>
 xo_b (F_X5_says 32 v16) (fun v17 =>
 xo_b (xa_ix 60 p1) (fun j18 =>
 xo_b (F_X5_saysNumber (v17.2 12 j18) v17) (fun v19 =>
 xo_b (F_X5_says 32 v19) (fun v20 =>
 B_X5_saysOperation_38 p1 v20)))))))
set_option maxHeartbeats 4000000 in
theorem K_X5_saysOperation {g : xm_G} (hG : xm_Gw g) {h0 : xm_H} {m : Nat} {ad : Nat → Nat} (hM : xM_ok h0 m ad) (hB : xk_B g h0) (p1 : Int32) (σ : xM_S) {o : xM_S} (e : F_X5_saysOperation p1 σ = some o) {Q : xm_P} {X : xm_X} (hQ : Q none (xMp h0 m ad o)) : xm_Run g M_X5_saysOperation 13 [.ref m, .int p1] (xMp h0 m ad σ) 0 0 Q X := by
  refine xm_Run.of pn_StringTableauModel (Nat.le_of_ble_eq_true rfl) (fun Γ hΓ => ?_)
  obtain ⟨P0, hP0, hp⟩ : ∃ P : xM_S → Prop, (∀ o, P o → Q none (xMp h0 m ad o)) ∧ P o := ⟨fun o => Q none (xMp h0 m ad o), fun _ h => h, hQ⟩
  clear hQ
  show xm_W g Γ 0 [some (.ref m), some (.int p1)] [] (xMp h0 m ad σ) 0 0
  have hB_120 : ∀ (σ : xM_S) (o : xM_S), B_X5_saysOperation_120 σ = some o → P0 o → xm_W g Γ 120 [some (.ref m), none] [] (xMp h0 m ad σ) 0 0 := by
    intro σ o e hp
    unfold B_X5_saysOperation_120 at e
    refine xw_ald (show xm_Imp g Γ 120 (xi_ald 0 121) from xs_aload_n hΓ dX5_saysOperation_120) rfl ?_
    refine xw_psh (v := (.int (59))) (show xm_Imp g Γ 121 (xi_psh (.int (59)) 123) from xs_bipush hΓ dX5_saysOperation_121 (by decide)) ?_
    obtain ⟨v9, e1, e⟩ := xo_b_s e
    refine xw_mu1 (show xm_Imp g Γ 123 (xi_vir g 4 M_X5_says 1 1 126) from xs_invV hG hΓ k_X5_says rfl (ci := 4) rfl q3492 q3494 qs114 dX5_saysOperation_123) rfl (fun Q X hQ => K_X5_says hG hM hB 59 σ e1 hQ) ?_
    exact xw_vret (show xm_Imp g Γ 126 (xi_vret _) from xs_return hΓ rfl dX5_saysOperation_126) (hP0 _ (xl_fin e hp))
  have hB_38 : ∀ (l1 : Int32) (σ : xM_S) (o : xM_S), B_X5_saysOperation_38 l1 σ = some o → P0 o → xm_W g Γ 38 [some (.ref m), some (.int l1)] [] (xMp h0 m ad σ) 0 0 := by
    intro l1 σ o e hp
    unfold B_X5_saysOperation_38 at e
    refine xw_ald (show xm_Imp g Γ 38 (xi_ald 0 39) from xs_aload_n hΓ dX5_saysOperation_38) rfl ?_
    refine xw_ald (show xm_Imp g Γ 39 (xi_ald 0 40) from xs_aload_n hΓ dX5_saysOperation_39) rfl ?_
    refine xw_mga (k := 9) (show xm_Imp g Γ 40 (xi_get 4 9 43) from xs_get hG hΓ (ci := 4) (kf := 9) rfl (Nat.le_of_ble_eq_true rfl) q2859 dX5_saysOperation_40) (fun _ => rfl) ?_
    refine xw_ild (show xm_Imp g Γ 43 (xi_ild 1 44) from xs_iload_n hΓ dX5_saysOperation_43) rfl ?_
    obtain ⟨j2, e1, e⟩ := xo_b_s e
    refine xw_mial (k := 9) (v := (σ.2 9 j2)) (show xm_Imp g Γ 44 (xi_ial 45) from xs_ial hG hΓ dX5_saysOperation_44) hM (by decide) rfl e1 rfl ?_
    obtain ⟨v3, e1, e⟩ := xo_b_s e
    refine xw_mu1 (show xm_Imp g Γ 45 (xi_vir g 4 M_X5_saysWord 12 1 48) from xs_invV hG hΓ k_X5_saysWord rfl (ci := 4) rfl q3509 q3511 qs117 dX5_saysOperation_45) rfl (fun Q X hQ => K_X5_saysWord hG hM hB (σ.2 9 j2) σ e1 hQ) ?_
    refine xw_ald (show xm_Imp g Γ 48 (xi_ald 0 49) from xs_aload_n hΓ dX5_saysOperation_48) rfl ?_
    refine xw_psh (v := (.int (32))) (show xm_Imp g Γ 49 (xi_psh (.int (32)) 51) from xs_bipush hΓ dX5_saysOperation_49 (by decide)) ?_
    obtain ⟨v4, e1, e⟩ := xo_b_s e
    refine xw_mu1 (show xm_Imp g Γ 51 (xi_vir g 4 M_X5_says 1 1 54) from xs_invV hG hΓ k_X5_says rfl (ci := 4) rfl q3492 q3494 qs114 dX5_saysOperation_51) rfl (fun Q X hQ => K_X5_says hG hM hB 32 v3 e1 hQ) ?_
    refine xw_ald (show xm_Imp g Γ 54 (xi_ald 0 55) from xs_aload_n hΓ dX5_saysOperation_54) rfl ?_
    refine xw_mga (k := 9) (show xm_Imp g Γ 55 (xi_get 4 9 58) from xs_get hG hΓ (ci := 4) (kf := 9) rfl (Nat.le_of_ble_eq_true rfl) q2859 dX5_saysOperation_55) (fun _ => rfl) ?_
    refine xw_ild (show xm_Imp g Γ 58 (xi_ild 1 59) from xs_iload_n hΓ dX5_saysOperation_58) rfl ?_
    obtain ⟨j5, e1, e⟩ := xo_b_s e
    refine xw_mial (k := 9) (v := (v4.2 9 j5)) (show xm_Imp g Γ 59 (xi_ial 60) from xs_ial hG hΓ dX5_saysOperation_59) hM (by decide) rfl e1 rfl ?_
    refine xw_psh (v := (.int (9))) (show xm_Imp g Γ 60 (xi_psh (.int (9)) 62) from xs_bipush hΓ dX5_saysOperation_60 (by decide)) ?_
    refine xw_ic (show xm_Imp g Γ 62 (xi_ic (fun x y => x = y) 65 84) from xs_icmp_ne hΓ dX5_saysOperation_62 (by decide)) (fun c => ?_) (fun c => ?_)
    · rw [if_pos c] at e
      refine xw_ald (show xm_Imp g Γ 65 (xi_ald 0 66) from xs_aload_n hΓ dX5_saysOperation_65) rfl ?_
      refine xw_ald (show xm_Imp g Γ 66 (xi_ald 0 67) from xs_aload_n hΓ dX5_saysOperation_66) rfl ?_
      refine xw_mga (k := 13) (show xm_Imp g Γ 67 (xi_get 4 13 70) from xs_get hG hΓ (ci := 4) (kf := 13) rfl (Nat.le_of_ble_eq_true rfl) q2863 dX5_saysOperation_67) (fun _ => rfl) ?_
      refine xw_ild (show xm_Imp g Γ 70 (xi_ild 1 71) from xs_iload_n hΓ dX5_saysOperation_70) rfl ?_
      obtain ⟨j6, e1, e⟩ := xo_b_s e
      refine xw_mial (k := 13) (v := (v4.2 13 j6)) (show xm_Imp g Γ 71 (xi_ial 72) from xs_ial hG hΓ dX5_saysOperation_71) hM (by decide) rfl e1 rfl ?_
      refine xw_ald (show xm_Imp g Γ 72 (xi_ald 0 73) from xs_aload_n hΓ dX5_saysOperation_72) rfl ?_
      refine xw_mga (k := 14) (show xm_Imp g Γ 73 (xi_get 4 14 76) from xs_get hG hΓ (ci := 4) (kf := 14) rfl (Nat.le_of_ble_eq_true rfl) q2864 dX5_saysOperation_73) (fun _ => rfl) ?_
      refine xw_ild (show xm_Imp g Γ 76 (xi_ild 1 77) from xs_iload_n hΓ dX5_saysOperation_76) rfl ?_
      obtain ⟨j7, e1, e⟩ := xo_b_s e
      refine xw_mial (k := 14) (v := (v4.2 14 j7)) (show xm_Imp g Γ 77 (xi_ial 78) from xs_ial hG hΓ dX5_saysOperation_77) hM (by decide) rfl e1 rfl ?_
      obtain ⟨v8, e1, e⟩ := xo_b_s e
      refine xw_mu2 (show xm_Imp g Γ 78 (xi_vir g 4 M_X5_saysLetters 12 2 81) from xs_invV hG hΓ k_X5_saysLetters rfl (ci := 4) rfl q3496 q3498 qs115 dX5_saysOperation_78) rfl (fun Q X hQ => K_X5_saysLetters hG hM hB (v4.2 13 j6) (v4.2 14 j7) v4 e1 hQ) ?_
      refine xw_goto (show xm_Imp g Γ 81 (xi_goto 120) from xs_goto hΓ dX5_saysOperation_81 (by decide)) ?_
      exact xm_lx (hB_120 _ _ e hp) (And.intro rfl (trivial))
    · rw [if_neg c] at e
      refine xw_ald (show xm_Imp g Γ 84 (xi_ald 0 85) from xs_aload_n hΓ dX5_saysOperation_84) rfl ?_
      refine xw_ald (show xm_Imp g Γ 85 (xi_ald 0 86) from xs_aload_n hΓ dX5_saysOperation_85) rfl ?_
      refine xw_mga (k := 10) (show xm_Imp g Γ 86 (xi_get 4 10 89) from xs_get hG hΓ (ci := 4) (kf := 10) rfl (Nat.le_of_ble_eq_true rfl) q2860 dX5_saysOperation_86) (fun _ => rfl) ?_
      refine xw_ild (show xm_Imp g Γ 89 (xi_ild 1 90) from xs_iload_n hΓ dX5_saysOperation_89) rfl ?_
      obtain ⟨j10, e1, e⟩ := xo_b_s e
      refine xw_mial (k := 10) (v := (v4.2 10 j10)) (show xm_Imp g Γ 90 (xi_ial 91) from xs_ial hG hΓ dX5_saysOperation_90) hM (by decide) rfl e1 rfl ?_
      obtain ⟨v11, e1, e⟩ := xo_b_s e
      refine xw_mu1 (show xm_Imp g Γ 91 (xi_vir g 4 M_X5_saysNumber 3 1 94) from xs_invV hG hΓ k_X5_saysNumber rfl (ci := 4) rfl q3513 q3515 qs118 dX5_saysOperation_91) rfl (fun Q X hQ => K_X5_saysNumber hG hM hB (v4.2 10 j10) v4 e1 hQ) ?_
      refine xw_ald (show xm_Imp g Γ 94 (xi_ald 0 95) from xs_aload_n hΓ dX5_saysOperation_94) rfl ?_
      refine xw_mga (k := 11) (show xm_Imp g Γ 95 (xi_get 4 11 98) from xs_get hG hΓ (ci := 4) (kf := 11) rfl (Nat.le_of_ble_eq_true rfl) q2861 dX5_saysOperation_95) (fun _ => rfl) ?_
      refine xw_ild (show xm_Imp g Γ 98 (xi_ild 1 99) from xs_iload_n hΓ dX5_saysOperation_98) rfl ?_
      obtain ⟨j12, e1, e⟩ := xo_b_s e
      refine xw_mial (k := 11) (v := (v11.2 11 j12)) (show xm_Imp g Γ 99 (xi_ial 100) from xs_ial hG hΓ dX5_saysOperation_99) hM (by decide) rfl e1 rfl ?_
      refine xw_psh (v := (.int (-1))) (show xm_Imp g Γ 100 (xi_psh (.int (-1)) 101) from xs_iconst hΓ dX5_saysOperation_100 (by decide)) ?_
      refine xw_ic (show xm_Imp g Γ 101 (xi_ic (fun x y => x = y) 120 104) from xs_icmp_eq hΓ dX5_saysOperation_101 (by decide)) (fun c => ?_) (fun c => ?_)
      · rw [if_pos c] at e
        exact xm_lx (hB_120 _ _ e hp) (And.intro rfl (trivial))
      · rw [if_neg c] at e
        refine xw_ald (show xm_Imp g Γ 104 (xi_ald 0 105) from xs_aload_n hΓ dX5_saysOperation_104) rfl ?_
        refine xw_psh (v := (.int (32))) (show xm_Imp g Γ 105 (xi_psh (.int (32)) 107) from xs_bipush hΓ dX5_saysOperation_105 (by decide)) ?_
        obtain ⟨v13, e1, e⟩ := xo_b_s e
        refine xw_mu1 (show xm_Imp g Γ 107 (xi_vir g 4 M_X5_says 1 1 110) from xs_invV hG hΓ k_X5_says rfl (ci := 4) rfl q3492 q3494 qs114 dX5_saysOperation_107) rfl (fun Q X hQ => K_X5_says hG hM hB 32 v11 e1 hQ) ?_
        refine xw_ald (show xm_Imp g Γ 110 (xi_ald 0 111) from xs_aload_n hΓ dX5_saysOperation_110) rfl ?_
        refine xw_ald (show xm_Imp g Γ 111 (xi_ald 0 112) from xs_aload_n hΓ dX5_saysOperation_111) rfl ?_
        refine xw_mga (k := 11) (show xm_Imp g Γ 112 (xi_get 4 11 115) from xs_get hG hΓ (ci := 4) (kf := 11) rfl (Nat.le_of_ble_eq_true rfl) q2861 dX5_saysOperation_112) (fun _ => rfl) ?_
        refine xw_ild (show xm_Imp g Γ 115 (xi_ild 1 116) from xs_iload_n hΓ dX5_saysOperation_115) rfl ?_
        obtain ⟨j14, e1, e⟩ := xo_b_s e
        refine xw_mial (k := 11) (v := (v13.2 11 j14)) (show xm_Imp g Γ 116 (xi_ial 117) from xs_ial hG hΓ dX5_saysOperation_116) hM (by decide) rfl e1 rfl ?_
        obtain ⟨v15, e1, e⟩ := xo_b_s e
        refine xw_mu1 (show xm_Imp g Γ 117 (xi_vir g 4 M_X5_saysNumber 3 1 120) from xs_invV hG hΓ k_X5_saysNumber rfl (ci := 4) rfl q3513 q3515 qs118 dX5_saysOperation_117) rfl (fun Q X hQ => K_X5_saysNumber hG hM hB (v13.2 11 j14) v13 e1 hQ) ?_
        exact xm_lx (hB_120 _ _ e hp) (And.intro rfl (trivial))
  unfold F_X5_saysOperation at e
  refine xw_ald (show xm_Imp g Γ 0 (xi_ald 0 1) from xs_aload_n hΓ dX5_saysOperation_0) rfl ?_
  refine xw_mga (k := 12) (show xm_Imp g Γ 1 (xi_get 4 12 4) from xs_get hG hΓ (ci := 4) (kf := 12) rfl (Nat.le_of_ble_eq_true rfl) q2862 dX5_saysOperation_1) (fun _ => rfl) ?_
  refine xw_ild (show xm_Imp g Γ 4 (xi_ild 1 5) from xs_iload_n hΓ dX5_saysOperation_4) rfl ?_
  obtain ⟨j1, e1, e⟩ := xo_b_s e
  refine xw_mial (k := 12) (v := (σ.2 12 j1)) (show xm_Imp g Γ 5 (xi_ial 6) from xs_ial hG hΓ dX5_saysOperation_5) hM (by decide) rfl e1 rfl ?_
  refine xw_psh (v := (.int (-1))) (show xm_Imp g Γ 6 (xi_psh (.int (-1)) 7) from xs_iconst hΓ dX5_saysOperation_6 (by decide)) ?_
  refine xw_ic (show xm_Imp g Γ 7 (xi_ic (fun x y => x = y) 38 10) from xs_icmp_eq hΓ dX5_saysOperation_7 (by decide)) (fun c => ?_) (fun c => ?_)
  · rw [if_pos c] at e
    exact hB_38 _ _ _ e hp
  · rw [if_neg c] at e
    refine xw_ald (show xm_Imp g Γ 10 (xi_ald 0 11) from xs_aload_n hΓ dX5_saysOperation_10) rfl ?_
    refine xw_psh (v := (.int (10))) (show xm_Imp g Γ 11 (xi_psh (.int (10)) 13) from xs_bipush hΓ dX5_saysOperation_11 (by decide)) ?_
    obtain ⟨v16, e1, e⟩ := xo_b_s e
    refine xw_mu1 (show xm_Imp g Γ 13 (xi_vir g 4 M_X5_saysWord 12 1 16) from xs_invV hG hΓ k_X5_saysWord rfl (ci := 4) rfl q3509 q3511 qs117 dX5_saysOperation_13) rfl (fun Q X hQ => K_X5_saysWord hG hM hB 10 σ e1 hQ) ?_
    refine xw_ald (show xm_Imp g Γ 16 (xi_ald 0 17) from xs_aload_n hΓ dX5_saysOperation_16) rfl ?_
    refine xw_psh (v := (.int (32))) (show xm_Imp g Γ 17 (xi_psh (.int (32)) 19) from xs_bipush hΓ dX5_saysOperation_17 (by decide)) ?_
    obtain ⟨v17, e1, e⟩ := xo_b_s e
    refine xw_mu1 (show xm_Imp g Γ 19 (xi_vir g 4 M_X5_says 1 1 22) from xs_invV hG hΓ k_X5_says rfl (ci := 4) rfl q3492 q3494 qs114 dX5_saysOperation_19) rfl (fun Q X hQ => K_X5_says hG hM hB 32 v16 e1 hQ) ?_
    refine xw_ald (show xm_Imp g Γ 22 (xi_ald 0 23) from xs_aload_n hΓ dX5_saysOperation_22) rfl ?_
    refine xw_ald (show xm_Imp g Γ 23 (xi_ald 0 24) from xs_aload_n hΓ dX5_saysOperation_23) rfl ?_
    refine xw_mga (k := 12) (show xm_Imp g Γ 24 (xi_get 4 12 27) from xs_get hG hΓ (ci := 4) (kf := 12) rfl (Nat.le_of_ble_eq_true rfl) q2862 dX5_saysOperation_24) (fun _ => rfl) ?_
    refine xw_ild (show xm_Imp g Γ 27 (xi_ild 1 28) from xs_iload_n hΓ dX5_saysOperation_27) rfl ?_
    obtain ⟨j18, e1, e⟩ := xo_b_s e
    refine xw_mial (k := 12) (v := (v17.2 12 j18)) (show xm_Imp g Γ 28 (xi_ial 29) from xs_ial hG hΓ dX5_saysOperation_28) hM (by decide) rfl e1 rfl ?_
    obtain ⟨v19, e1, e⟩ := xo_b_s e
    refine xw_mu1 (show xm_Imp g Γ 29 (xi_vir g 4 M_X5_saysNumber 3 1 32) from xs_invV hG hΓ k_X5_saysNumber rfl (ci := 4) rfl q3513 q3515 qs118 dX5_saysOperation_29) rfl (fun Q X hQ => K_X5_saysNumber hG hM hB (v17.2 12 j18) v17 e1 hQ) ?_
    refine xw_ald (show xm_Imp g Γ 32 (xi_ald 0 33) from xs_aload_n hΓ dX5_saysOperation_32) rfl ?_
    refine xw_psh (v := (.int (32))) (show xm_Imp g Γ 33 (xi_psh (.int (32)) 35) from xs_bipush hΓ dX5_saysOperation_33 (by decide)) ?_
    obtain ⟨v20, e1, e⟩ := xo_b_s e
    refine xw_mu1 (show xm_Imp g Γ 35 (xi_vir g 4 M_X5_says 1 1 38) from xs_invV hG hΓ k_X5_says rfl (ci := 4) rfl q3492 q3494 qs114 dX5_saysOperation_35) rfl (fun Q X hQ => K_X5_says hG hM hB 32 v19 e1 hQ) ?_
    exact hB_38 _ _ _ e hp
noncomputable def D_X5_printProgram_12  (s : Int32 × xM_S) : Option ((Int32 × xM_S) ⊕ (Int32 × xM_S)) :=
 (if (s.2.1 18) ≤ s.1 then
 xl_o (some (((s.2.1 41), s.2))) else
 xo_b (F_X5_saysOperation s.1 s.2) (fun v1 =>
 some (Sum.inl (s.1 + 1, v1))))
noncomputable def L_X5_printProgram_12  (s : Int32 × xM_S) : Option (Int32 × xM_S) := xl_loop (D_X5_printProgram_12 ) s
noncomputable def F_X5_printProgram (σ : xM_S) : Option (Int32 × xM_S) :=
 L_X5_printProgram_12 (0, (xM_f (xM_f σ 0 0) 41 0))
set_option maxHeartbeats 4000000 in
theorem K_X5_printProgram {g : xm_G} (hG : xm_Gw g) {h0 : xm_H} {m : Nat} {ad : Nat → Nat} (hM : xM_ok h0 m ad) (hB : xk_B g h0)  (σ : xM_S) {o : Int32 × xM_S} (e : F_X5_printProgram σ = some o) {Q : xm_P} {X : xm_X} (hQ : Q (some (.int o.1)) (xMp h0 m ad o.2)) : xm_Run g M_X5_printProgram 14 [.ref m] (xMp h0 m ad σ) 0 0 Q X := by
  refine xm_Run.of pn_StringTableauModel (Nat.le_of_ble_eq_true rfl) (fun Γ hΓ => ?_)
  obtain ⟨P0, hP0, hp⟩ : ∃ P : Int32 × xM_S → Prop, (∀ o, P o → Q (some (.int o.1)) (xMp h0 m ad o.2)) ∧ P o := ⟨fun o => Q (some (.int o.1)) (xMp h0 m ad o.2), fun _ h => h, hQ⟩
  clear hQ
  show xm_W g Γ 0 [some (.ref m), none] [] (xMp h0 m ad σ) 0 0
  have hL_12 : ∀  (s : Int32 × xM_S) (o : Int32 × xM_S), L_X5_printProgram_12  s = some o → P0 o → xm_W g Γ 12 [some (.ref m), some (.int s.1)] [] (xMp h0 m ad s.2) 0 0 := by
    skip
    refine xl_rule (WS := fun s : Int32 × xM_S => xm_W g Γ 12 [some (.ref m), some (.int s.1)] [] (xMp h0 m ad s.2) 0 0) ?_
    intro s o e hp
    obtain ⟨P1, hP1, hp⟩ : ∃ P : (Int32 × xM_S) ⊕ (Int32 × xM_S) → Prop, (∀ o, P o → xl_P (fun s : Int32 × xM_S => xm_W g Γ 12 [some (.ref m), some (.int s.1)] [] (xMp h0 m ad s.2) 0 0) P0 o) ∧ P o := ⟨_, fun _ h => h, hp⟩
    unfold D_X5_printProgram_12 at e
    refine xw_ild (show xm_Imp g Γ 12 (xi_ild 1 13) from xs_iload_n hΓ dX5_printProgram_12) rfl ?_
    refine xw_ald (show xm_Imp g Γ 13 (xi_ald 0 14) from xs_aload_n hΓ dX5_printProgram_13) rfl ?_
    refine xw_mgi (v := (s.2.1 18)) (show xm_Imp g Γ 14 (xi_get 4 18 17) from xs_get hG hΓ (ci := 4) (kf := 18) rfl (Nat.le_of_ble_eq_true rfl) q2868 dX5_printProgram_14) (fun _ => rfl) rfl ?_
    refine xw_ic (show xm_Imp g Γ 17 (xi_ic (fun x y => y ≤ x) 31 20) from xs_icmp_ge hΓ dX5_printProgram_17 (by decide)) (fun c => ?_) (fun c => ?_)
    · rw [if_pos c] at e
      obtain ⟨_, e, hp⟩ := xl_o_s e (hP1 _ hp)
      refine xw_ald (show xm_Imp g Γ 31 (xi_ald 0 32) from xs_aload_n hΓ dX5_printProgram_31) rfl ?_
      refine xw_mgi (v := (s.2.1 41)) (show xm_Imp g Γ 32 (xi_get 4 41 35) from xs_get hG hΓ (ci := 4) (kf := 41) rfl (Nat.le_of_ble_eq_true rfl) q2891 dX5_printProgram_32) (fun _ => rfl) rfl ?_
      exact xw_iret (show xm_Imp g Γ 35 (xi_iret .int _) from xs_ireturn hΓ rfl dX5_printProgram_35) (xn_int _) (hP0 _ (xl_fin e hp))
    · rw [if_neg c] at e
      refine xw_ald (show xm_Imp g Γ 20 (xi_ald 0 21) from xs_aload_n hΓ dX5_printProgram_20) rfl ?_
      refine xw_ild (show xm_Imp g Γ 21 (xi_ild 1 22) from xs_iload_n hΓ dX5_printProgram_21) rfl ?_
      obtain ⟨v1, e1, e⟩ := xo_b_s e
      refine xw_mu1 (show xm_Imp g Γ 22 (xi_vir g 4 M_X5_saysOperation 13 1 25) from xs_invV hG hΓ k_X5_saysOperation rfl (ci := 4) rfl q3505 q3507 qs116 dX5_printProgram_22) rfl (fun Q X hQ => K_X5_saysOperation hG hM hB s.1 s.2 e1 hQ) ?_
      refine xw_inc (v := (1)) (ls' := [some (.ref m), some (.int (s.1 + 1))]) (show xm_Imp g Γ 25 (xi_inc 1 (1) 28) from xs_iinc hΓ dX5_printProgram_25 (by decide) (Nat.le_of_ble_eq_true rfl)) rfl rfl ?_
      refine xw_goto (show xm_Imp g Γ 28 (xi_goto 12) from xs_goto hΓ dX5_printProgram_28 (by decide)) ?_
      have hq := xl_P_inl (hP1 _ (xl_fin e hp)); exact hq
  unfold F_X5_printProgram at e
  refine xw_ald (show xm_Imp g Γ 0 (xi_ald 0 1) from xs_aload_n hΓ dX5_printProgram_0) rfl ?_
  refine xw_psh (v := (.int (0))) (show xm_Imp g Γ 1 (xi_psh (.int (0)) 2) from xs_iconst hΓ dX5_printProgram_1 (by decide)) ?_
  refine xw_mpi (show xm_Imp g Γ 2 (xi_put 4 0 (.int) 5) from xs_put hG hΓ (ci := 4) (kf := 0) rfl (Nat.le_of_ble_eq_true rfl) rfl (by decide +kernel) q2850 dX5_printProgram_2) (fun _ _ => rfl) ⟨rfl, rfl⟩ ?_
  refine xw_ald (show xm_Imp g Γ 5 (xi_ald 0 6) from xs_aload_n hΓ dX5_printProgram_5) rfl ?_
  refine xw_psh (v := (.int (0))) (show xm_Imp g Γ 6 (xi_psh (.int (0)) 7) from xs_iconst hΓ dX5_printProgram_6 (by decide)) ?_
  refine xw_mpi (show xm_Imp g Γ 7 (xi_put 4 41 (.int) 10) from xs_put hG hΓ (ci := 4) (kf := 41) rfl (Nat.le_of_ble_eq_true rfl) rfl (by decide +kernel) q2891 dX5_printProgram_7) (fun _ _ => rfl) ⟨rfl, rfl⟩ ?_
  refine xw_psh (v := (.int (0))) (show xm_Imp g Γ 10 (xi_psh (.int (0)) 11) from xs_iconst hΓ dX5_printProgram_10 (by decide)) ?_
  refine xw_ist (ls' := [some (.ref m), some (.int 0)]) (show xm_Imp g Γ 11 (xi_ist 1 12) from xs_istore_n hΓ dX5_printProgram_11 (Nat.le_of_ble_eq_true rfl)) rfl ?_
  exact hL_12 _ _ e hp
noncomputable def F_X5_outputByte (p1 : Int32) (σ : xM_S) : Option (Int32 × xM_S) :=
 (if (F_X5_isIn p1.toInt64 0 (((σ.1 41).toInt64) - 1)) = 0 then
 some (((-1), (xM_f σ 0 0))) else
 xo_b (xa_ix 2400 p1) (fun j1 =>
 some (((σ.2 40 j1), (xM_f σ 0 0)))))
set_option maxHeartbeats 4000000 in
theorem K_X5_outputByte {g : xm_G} (hG : xm_Gw g) {h0 : xm_H} {m : Nat} {ad : Nat → Nat} (hM : xM_ok h0 m ad) (hB : xk_B g h0) (p1 : Int32) (σ : xM_S) {o : Int32 × xM_S} (e : F_X5_outputByte p1 σ = some o) {Q : xm_P} {X : xm_X} (hQ : Q (some (.int o.1)) (xMp h0 m ad o.2)) : xm_Run g M_X5_outputByte 2 [.ref m, .int p1] (xMp h0 m ad σ) 0 0 Q X := by
  refine xm_Run.of pn_StringTableauModel (Nat.le_of_ble_eq_true rfl) (fun Γ hΓ => ?_)
  obtain ⟨P0, hP0, hp⟩ : ∃ P : Int32 × xM_S → Prop, (∀ o, P o → Q (some (.int o.1)) (xMp h0 m ad o.2)) ∧ P o := ⟨fun o => Q (some (.int o.1)) (xMp h0 m ad o.2), fun _ h => h, hQ⟩
  clear hQ
  show xm_W g Γ 0 [some (.ref m), some (.int p1)] [] (xMp h0 m ad σ) 0 0
  unfold F_X5_outputByte at e
  refine xw_ald (show xm_Imp g Γ 0 (xi_ald 0 1) from xs_aload_n hΓ dX5_outputByte_0) rfl ?_
  refine xw_psh (v := (.int (0))) (show xm_Imp g Γ 1 (xi_psh (.int (0)) 2) from xs_iconst hΓ dX5_outputByte_1 (by decide)) ?_
  refine xw_mpi (show xm_Imp g Γ 2 (xi_put 4 0 (.int) 5) from xs_put hG hΓ (ci := 4) (kf := 0) rfl (Nat.le_of_ble_eq_true rfl) rfl (by decide +kernel) q2850 dX5_outputByte_2) (fun _ _ => rfl) ⟨rfl, rfl⟩ ?_
  refine xw_ild (show xm_Imp g Γ 5 (xi_ild 1 6) from xs_iload_n hΓ dX5_outputByte_5) rfl ?_
  refine xw_i2l (show xm_Imp g Γ 6 (xi_i2l 7) from xs_i2l hΓ dX5_outputByte_6) ?_
  refine xw_psh (v := (.long 0)) (show xm_Imp g Γ 7 (xi_psh (.long 0) 8) from xs_lconst hΓ dX5_outputByte_7 (by decide)) ?_
  refine xw_ald (show xm_Imp g Γ 8 (xi_ald 0 9) from xs_aload_n hΓ dX5_outputByte_8) rfl ?_
  refine xw_mgi (v := (σ.1 41)) (show xm_Imp g Γ 9 (xi_get 4 41 12) from xs_get hG hΓ (ci := 4) (kf := 41) rfl (Nat.le_of_ble_eq_true rfl) q2891 dX5_outputByte_9) (fun _ => rfl) rfl ?_
  refine xw_i2l (show xm_Imp g Γ 12 (xi_i2l 13) from xs_i2l hΓ dX5_outputByte_12) ?_
  refine xw_psh (v := (.long 1)) (show xm_Imp g Γ 13 (xi_psh (.long 1) 14) from xs_lconst hΓ dX5_outputByte_13 (by decide)) ?_
  refine xw_lsub (show xm_Imp g Γ 14 (xi_lsub 15) from xs_lsub hΓ dX5_outputByte_14) ?_
  refine xw_sv3 (show xm_Imp g Γ 15 (xi_inv g M_X5_isIn 1 3 18) from xs_invS hG hΓ k_X5_isIn rfl q2996 q2997 dX5_outputByte_15) rfl (fun Q X hQ => K_X5_isIn hG p1.toInt64 0 (((σ.1 41).toInt64) - 1) rfl hQ) ?_
  refine xw_if (show xm_Imp g Γ 18 (xi_if (fun x => x = 0) 30 21) from xs_if_eq hΓ dX5_outputByte_18 (by decide)) (fun c => ?_) (fun c => ?_)
  · rw [if_pos c] at e
    refine xw_psh (v := (.int (-1))) (show xm_Imp g Γ 30 (xi_psh (.int (-1)) 31) from xs_iconst hΓ dX5_outputByte_30 (by decide)) ?_
    exact xw_iret (show xm_Imp g Γ 31 (xi_iret .int _) from xs_ireturn hΓ rfl dX5_outputByte_31) (xn_int _) (hP0 _ (xl_fin e hp))
  · rw [if_neg c] at e
    refine xw_ald (show xm_Imp g Γ 21 (xi_ald 0 22) from xs_aload_n hΓ dX5_outputByte_21) rfl ?_
    refine xw_mga (k := 40) (show xm_Imp g Γ 22 (xi_get 4 40 25) from xs_get hG hΓ (ci := 4) (kf := 40) rfl (Nat.le_of_ble_eq_true rfl) q2890 dX5_outputByte_22) (fun _ => rfl) ?_
    refine xw_ild (show xm_Imp g Γ 25 (xi_ild 1 26) from xs_iload_n hΓ dX5_outputByte_25) rfl ?_
    obtain ⟨j1, e1, e⟩ := xo_b_s e
    refine xw_mbal (k := 40) (v := (σ.2 40 j1)) (show xm_Imp g Γ 26 (xi_bal 27) from xs_bal hG hΓ dX5_outputByte_26) hM (by decide) rfl e1 rfl ?_
    refine xw_goto (show xm_Imp g Γ 27 (xi_goto 31) from xs_goto hΓ dX5_outputByte_27 (by decide)) ?_
    exact xw_iret (show xm_Imp g Γ 31 (xi_iret .int _) from xs_ireturn hΓ rfl dX5_outputByte_31) (xn_int _) (hP0 _ (xl_fin e hp))
