/-! THE REFERENCE as functions (printed by gen/mkmfun.py) -/
set_option maxRecDepth 100000
noncomputable def B_X5_canMeasure_39 (σ : xM_S) : Option (Int32 × xM_S) :=
 some ((1, σ))
noncomputable def F_X5_canMeasure (p1 : Int32) (p2 : Int32) (p3 : Int32) (p4 : Int32) (σ : xM_S) : Option (Int32 × xM_S) :=
 (if (σ.2 1 4) = 100 then
 some ((0, σ)) else
 xo_b (F_X5_determined p1 p2 p3 σ) (fun v1 =>
 (if v1.1 = 0 then
 B_X5_canMeasure_39 v1.2 else
 (if p4 = 0 then
 B_X5_canMeasure_39 v1.2 else
 (if p4 = v1.1 then
 B_X5_canMeasure_39 v1.2 else
 some ((0, v1.2)))))))
set_option maxHeartbeats 4000000 in
theorem K_X5_canMeasure {g : xm_G} (hG : xm_Gw g) {h0 : xm_H} {m : Nat} {ad : Nat → Nat} (hM : xM_ok h0 m ad) (hB : xk_B g h0) (p1 : Int32) (p2 : Int32) (p3 : Int32) (p4 : Int32) (σ : xM_S) {o : Int32 × xM_S} (e : F_X5_canMeasure p1 p2 p3 p4 σ = some o) {Q : xm_P} {X : xm_X} (hQ : Q (some (.int o.1)) (xMp h0 m ad o.2)) : xm_Run g M_X5_canMeasure 8 [.ref m, .int p1, .int p2, .int p3, .int p4] (xMp h0 m ad σ) 0 0 Q X := by
  refine xm_Run.of pn_StringTableauModel (Nat.le_of_ble_eq_true rfl) (fun Γ hΓ => ?_)
  obtain ⟨P0, hP0, hp⟩ : ∃ P : Int32 × xM_S → Prop, (∀ o, P o → Q (some (.int o.1)) (xMp h0 m ad o.2)) ∧ P o := ⟨fun o => Q (some (.int o.1)) (xMp h0 m ad o.2), fun _ h => h, hQ⟩
  clear hQ
  show xm_W g Γ 0 [some (.ref m), some (.int p1), some (.int p2), some (.int p3), some (.int p4), none] [] (xMp h0 m ad σ) 0 0
  have hB_39 : ∀ (σ : xM_S) (o : Int32 × xM_S), B_X5_canMeasure_39 σ = some o → P0 o → xm_W g Γ 39 [none, none, none, none, none, none] [] (xMp h0 m ad σ) 0 0 := by
    intro σ o e hp
    unfold B_X5_canMeasure_39 at e
    refine xw_psh (v := (.int (1))) (show xm_Imp g Γ 39 (xi_psh (.int (1)) 40) from xs_iconst hΓ dX5_canMeasure_39 (by decide)) ?_
    refine xw_goto (show xm_Imp g Γ 40 (xi_goto 44) from xs_goto hΓ dX5_canMeasure_40 (by decide)) ?_
    exact xw_iret (show xm_Imp g Γ 44 (xi_iret .boolean _) from xs_ireturn hΓ rfl dX5_canMeasure_44) rfl (hP0 _ (xl_fin e hp))
  unfold F_X5_canMeasure at e
  refine xw_ald (show xm_Imp g Γ 0 (xi_ald 0 1) from xs_aload_n hΓ dX5_canMeasure_0) rfl ?_
  refine xw_mga (k := 1) (show xm_Imp g Γ 1 (xi_get 4 1 4) from xs_get hG hΓ (ci := 4) (kf := 1) rfl (Nat.le_of_ble_eq_true rfl) q2851 dX5_canMeasure_1) (fun _ => rfl) ?_
  refine xw_psh (v := (.int (4))) (show xm_Imp g Γ 4 (xi_psh (.int (4)) 5) from xs_iconst hΓ dX5_canMeasure_4 (by decide)) ?_
  refine xw_mial (k := 1) (j := 4) (v := (σ.2 1 4)) (show xm_Imp g Γ 5 (xi_ial 6) from xs_ial hG hΓ dX5_canMeasure_5) hM (by decide) rfl rfl rfl ?_
  refine xw_psh (v := (.int (100))) (show xm_Imp g Γ 6 (xi_psh (.int (100)) 8) from xs_bipush hΓ dX5_canMeasure_6 (by decide)) ?_
  refine xw_ic (show xm_Imp g Γ 8 (xi_ic (fun x y => x = y) 11 13) from xs_icmp_ne hΓ dX5_canMeasure_8 (by decide)) (fun c => ?_) (fun c => ?_)
  · rw [if_pos c] at e
    refine xw_psh (v := (.int (0))) (show xm_Imp g Γ 11 (xi_psh (.int (0)) 12) from xs_iconst hΓ dX5_canMeasure_11 (by decide)) ?_
    exact xw_iret (show xm_Imp g Γ 12 (xi_iret .boolean _) from xs_ireturn hΓ rfl dX5_canMeasure_12) rfl (hP0 _ (xl_fin e hp))
  · rw [if_neg c] at e
    refine xw_ald (show xm_Imp g Γ 13 (xi_ald 0 14) from xs_aload_n hΓ dX5_canMeasure_13) rfl ?_
    refine xw_ild (show xm_Imp g Γ 14 (xi_ild 1 15) from xs_iload_n hΓ dX5_canMeasure_14) rfl ?_
    refine xw_ild (show xm_Imp g Γ 15 (xi_ild 2 16) from xs_iload_n hΓ dX5_canMeasure_15) rfl ?_
    refine xw_ild (show xm_Imp g Γ 16 (xi_ild 3 17) from xs_iload_n hΓ dX5_canMeasure_16) rfl ?_
    obtain ⟨v1, e1, e⟩ := xo_b_s e
    refine xw_mv3 (show xm_Imp g Γ 17 (xi_vir g 4 M_X5_determined 7 3 20) from xs_invV hG hΓ k_X5_determined rfl (ci := 4) rfl q3082 q3084 qs63 dX5_canMeasure_17) rfl (fun Q X hQ => K_X5_determined hG hM hB p1 p2 p3 σ e1 hQ) ?_
    refine xw_ist (ls' := [some (.ref m), some (.int p1), some (.int p2), some (.int p3), some (.int p4), some (.int v1.1)]) (show xm_Imp g Γ 20 (xi_ist 5 22) from xs_istore hΓ dX5_canMeasure_20 (Nat.le_of_ble_eq_true rfl)) rfl ?_
    refine xw_ild (show xm_Imp g Γ 22 (xi_ild 5 24) from xs_iload hΓ dX5_canMeasure_22) rfl ?_
    refine xw_if (show xm_Imp g Γ 24 (xi_if (fun x => x = 0) 39 27) from xs_if_eq hΓ dX5_canMeasure_24 (by decide)) (fun c => ?_) (fun c => ?_)
    · rw [if_pos c] at e
      exact xm_lx (hB_39 _ _ e hp) (trivial)
    · rw [if_neg c] at e
      refine xw_ild (show xm_Imp g Γ 27 (xi_ild 4 29) from xs_iload hΓ dX5_canMeasure_27) rfl ?_
      refine xw_if (show xm_Imp g Γ 29 (xi_if (fun x => x = 0) 39 32) from xs_if_eq hΓ dX5_canMeasure_29 (by decide)) (fun c => ?_) (fun c => ?_)
      · rw [if_pos c] at e
        exact xm_lx (hB_39 _ _ e hp) (trivial)
      · rw [if_neg c] at e
        refine xw_ild (show xm_Imp g Γ 32 (xi_ild 4 34) from xs_iload hΓ dX5_canMeasure_32) rfl ?_
        refine xw_ild (show xm_Imp g Γ 34 (xi_ild 5 36) from xs_iload hΓ dX5_canMeasure_34) rfl ?_
        refine xw_ic (show xm_Imp g Γ 36 (xi_ic (fun x y => x = y) 39 43) from xs_icmp_ne hΓ dX5_canMeasure_36 (by decide)) (fun c => ?_) (fun c => ?_)
        · rw [if_pos c] at e
          exact xm_lx (hB_39 _ _ e hp) (trivial)
        · rw [if_neg c] at e
          refine xw_psh (v := (.int (0))) (show xm_Imp g Γ 43 (xi_psh (.int (0)) 44) from xs_iconst hΓ dX5_canMeasure_43 (by decide)) ?_
          exact xw_iret (show xm_Imp g Γ 44 (xi_iret .boolean _) from xs_ireturn hΓ rfl dX5_canMeasure_44) rfl (hP0 _ (xl_fin e hp))
noncomputable def B_X5_records_38 (s1 : Int32) (s2 : Int32) (σ : xM_S) : Option (xM_S) :=
 xo_b (xa_ix 530 s1) (fun j2 =>
 some (xM_a (xM_a (xM_a σ 1 j2 s2) 1 4 (((xM_a σ 1 j2 s2).2 1 4) + 1)) 1 5 0))
noncomputable def F_X5_records (p1 : Int32) (p2 : Int32) (σ : xM_S) : Option (xM_S) :=
 xo_b (xa_ix 530 (30 + (σ.2 1 4))) (fun j1 =>
 B_X5_records_38 (130 + ((xM_a σ 1 j1 p1).2 1 4)) (if p2 = 0 then 0 else 1) (xM_a σ 1 j1 p1))
set_option maxHeartbeats 4000000 in
theorem K_X5_records {g : xm_G} (hG : xm_Gw g) {h0 : xm_H} {m : Nat} {ad : Nat → Nat} (hM : xM_ok h0 m ad) (hB : xk_B g h0) (p1 : Int32) (p2 : Int32) (σ : xM_S) {o : xM_S} (e : F_X5_records p1 p2 σ = some o) {Q : xm_P} {X : xm_X} (hQ : Q none (xMp h0 m ad o)) : xm_Run g M_X5_records 1 [.ref m, .int p1, .int p2] (xMp h0 m ad σ) 0 0 Q X := by
  refine xm_Run.of pn_StringTableauModel (Nat.le_of_ble_eq_true rfl) (fun Γ hΓ => ?_)
  obtain ⟨P0, hP0, hp⟩ : ∃ P : xM_S → Prop, (∀ o, P o → Q none (xMp h0 m ad o)) ∧ P o := ⟨fun o => Q none (xMp h0 m ad o), fun _ h => h, hQ⟩
  clear hQ
  show xm_W g Γ 0 [some (.ref m), some (.int p1), some (.int p2)] [] (xMp h0 m ad σ) 0 0
  have hB_38 : ∀ (s1 : Int32) (s2 : Int32) (σ : xM_S) (o : xM_S), B_X5_records_38 s1 s2 σ = some o → P0 o → xm_W g Γ 38 [some (.ref m), none, none] [.int s2, .int s1, .ref (ad 1)] (xMp h0 m ad σ) 0 0 := by
    intro s1 s2 σ o e hp
    unfold B_X5_records_38 at e
    obtain ⟨j2, e1, e⟩ := xo_b_s e
    refine xw_mias (k := 1) (show xm_Imp g Γ 38 (xi_ias 39) from xs_ias hG hΓ dX5_records_38) hM (by decide) rfl e1 ?_
    refine xw_ald (show xm_Imp g Γ 39 (xi_ald 0 40) from xs_aload_n hΓ dX5_records_39) rfl ?_
    refine xw_mga (k := 1) (show xm_Imp g Γ 40 (xi_get 4 1 43) from xs_get hG hΓ (ci := 4) (kf := 1) rfl (Nat.le_of_ble_eq_true rfl) q2851 dX5_records_40) (fun _ => rfl) ?_
    refine xw_psh (v := (.int (4))) (show xm_Imp g Γ 43 (xi_psh (.int (4)) 44) from xs_iconst hΓ dX5_records_43 (by decide)) ?_
    refine xw_ald (show xm_Imp g Γ 44 (xi_ald 0 45) from xs_aload_n hΓ dX5_records_44) rfl ?_
    refine xw_mga (k := 1) (show xm_Imp g Γ 45 (xi_get 4 1 48) from xs_get hG hΓ (ci := 4) (kf := 1) rfl (Nat.le_of_ble_eq_true rfl) q2851 dX5_records_45) (fun _ => rfl) ?_
    refine xw_psh (v := (.int (4))) (show xm_Imp g Γ 48 (xi_psh (.int (4)) 49) from xs_iconst hΓ dX5_records_48 (by decide)) ?_
    refine xw_mial (k := 1) (j := 4) (v := ((xM_a σ 1 j2 s2).2 1 4)) (show xm_Imp g Γ 49 (xi_ial 50) from xs_ial hG hΓ dX5_records_49) hM (by decide) rfl rfl rfl ?_
    refine xw_psh (v := (.int (1))) (show xm_Imp g Γ 50 (xi_psh (.int (1)) 51) from xs_iconst hΓ dX5_records_50 (by decide)) ?_
    refine xw_ii (show xm_Imp g Γ 51 (xi_ii (fun x y => x + y) 52) from xs_iadd hΓ dX5_records_51) ?_
    refine xw_mias (k := 1) (j := 4) (show xm_Imp g Γ 52 (xi_ias 53) from xs_ias hG hΓ dX5_records_52) hM (by decide) rfl rfl ?_
    refine xw_ald (show xm_Imp g Γ 53 (xi_ald 0 54) from xs_aload_n hΓ dX5_records_53) rfl ?_
    refine xw_mga (k := 1) (show xm_Imp g Γ 54 (xi_get 4 1 57) from xs_get hG hΓ (ci := 4) (kf := 1) rfl (Nat.le_of_ble_eq_true rfl) q2851 dX5_records_54) (fun _ => rfl) ?_
    refine xw_psh (v := (.int (5))) (show xm_Imp g Γ 57 (xi_psh (.int (5)) 58) from xs_iconst hΓ dX5_records_57 (by decide)) ?_
    refine xw_psh (v := (.int (0))) (show xm_Imp g Γ 58 (xi_psh (.int (0)) 59) from xs_iconst hΓ dX5_records_58 (by decide)) ?_
    refine xw_mias (k := 1) (j := 5) (show xm_Imp g Γ 59 (xi_ias 60) from xs_ias hG hΓ dX5_records_59) hM (by decide) rfl rfl ?_
    exact xw_vret (show xm_Imp g Γ 60 (xi_vret _) from xs_return hΓ rfl dX5_records_60) (hP0 _ (xl_fin e hp))
  unfold F_X5_records at e
  refine xw_ald (show xm_Imp g Γ 0 (xi_ald 0 1) from xs_aload_n hΓ dX5_records_0) rfl ?_
  refine xw_mga (k := 1) (show xm_Imp g Γ 1 (xi_get 4 1 4) from xs_get hG hΓ (ci := 4) (kf := 1) rfl (Nat.le_of_ble_eq_true rfl) q2851 dX5_records_1) (fun _ => rfl) ?_
  refine xw_psh (v := (.int (30))) (show xm_Imp g Γ 4 (xi_psh (.int (30)) 6) from xs_bipush hΓ dX5_records_4 (by decide)) ?_
  refine xw_ald (show xm_Imp g Γ 6 (xi_ald 0 7) from xs_aload_n hΓ dX5_records_6) rfl ?_
  refine xw_mga (k := 1) (show xm_Imp g Γ 7 (xi_get 4 1 10) from xs_get hG hΓ (ci := 4) (kf := 1) rfl (Nat.le_of_ble_eq_true rfl) q2851 dX5_records_7) (fun _ => rfl) ?_
  refine xw_psh (v := (.int (4))) (show xm_Imp g Γ 10 (xi_psh (.int (4)) 11) from xs_iconst hΓ dX5_records_10 (by decide)) ?_
  refine xw_mial (k := 1) (j := 4) (v := (σ.2 1 4)) (show xm_Imp g Γ 11 (xi_ial 12) from xs_ial hG hΓ dX5_records_11) hM (by decide) rfl rfl rfl ?_
  refine xw_ii (show xm_Imp g Γ 12 (xi_ii (fun x y => x + y) 13) from xs_iadd hΓ dX5_records_12) ?_
  refine xw_ild (show xm_Imp g Γ 13 (xi_ild 1 14) from xs_iload_n hΓ dX5_records_13) rfl ?_
  obtain ⟨j1, e1, e⟩ := xo_b_s e
  refine xw_mias (k := 1) (show xm_Imp g Γ 14 (xi_ias 15) from xs_ias hG hΓ dX5_records_14) hM (by decide) rfl e1 ?_
  refine xw_ald (show xm_Imp g Γ 15 (xi_ald 0 16) from xs_aload_n hΓ dX5_records_15) rfl ?_
  refine xw_mga (k := 1) (show xm_Imp g Γ 16 (xi_get 4 1 19) from xs_get hG hΓ (ci := 4) (kf := 1) rfl (Nat.le_of_ble_eq_true rfl) q2851 dX5_records_16) (fun _ => rfl) ?_
  refine xw_psh (v := (.int (130))) (show xm_Imp g Γ 19 (xi_psh (.int (130)) 22) from xs_sipush hΓ dX5_records_19 (by decide)) ?_
  refine xw_ald (show xm_Imp g Γ 22 (xi_ald 0 23) from xs_aload_n hΓ dX5_records_22) rfl ?_
  refine xw_mga (k := 1) (show xm_Imp g Γ 23 (xi_get 4 1 26) from xs_get hG hΓ (ci := 4) (kf := 1) rfl (Nat.le_of_ble_eq_true rfl) q2851 dX5_records_23) (fun _ => rfl) ?_
  refine xw_psh (v := (.int (4))) (show xm_Imp g Γ 26 (xi_psh (.int (4)) 27) from xs_iconst hΓ dX5_records_26 (by decide)) ?_
  refine xw_mial (k := 1) (j := 4) (v := ((xM_a σ 1 j1 p1).2 1 4)) (show xm_Imp g Γ 27 (xi_ial 28) from xs_ial hG hΓ dX5_records_27) hM (by decide) rfl rfl rfl ?_
  refine xw_ii (show xm_Imp g Γ 28 (xi_ii (fun x y => x + y) 29) from xs_iadd hΓ dX5_records_28) ?_
  refine xw_ild (show xm_Imp g Γ 29 (xi_ild 2 30) from xs_iload_n hΓ dX5_records_29) rfl ?_
  refine xw_if (show xm_Imp g Γ 30 (xi_if (fun x => x = 0) 37 33) from xs_if_eq hΓ dX5_records_30 (by decide)) (fun c => ?_) (fun c => ?_)
  · rw [if_pos c] at e
    refine xw_psh (v := (.int (0))) (show xm_Imp g Γ 37 (xi_psh (.int (0)) 38) from xs_iconst hΓ dX5_records_37 (by decide)) ?_
    exact xm_lx (hB_38 _ _ _ _ e hp) (And.intro rfl (trivial))
  · rw [if_neg c] at e
    refine xw_psh (v := (.int (1))) (show xm_Imp g Γ 33 (xi_psh (.int (1)) 34) from xs_iconst hΓ dX5_records_33 (by decide)) ?_
    refine xw_goto (show xm_Imp g Γ 34 (xi_goto 38) from xs_goto hΓ dX5_records_34 (by decide)) ?_
    exact xm_lx (hB_38 _ _ _ _ e hp) (And.intro rfl (trivial))
noncomputable def F_X5_draws (σ : xM_S) : Option (Int32 × xM_S) :=
 (if ((((((σ.2 1 1) * 1103515245) + 12345) &&& 2147483647) / 65536) - (((((σ.2 1 1) * 1103515245) + 12345) &&& 2147483647) / 65536) / 2 * 2) = 0 then
 some ((1, (xM_a σ 1 1 ((((σ.2 1 1) * 1103515245) + 12345) &&& 2147483647)))) else
 some (((-1), (xM_a σ 1 1 ((((σ.2 1 1) * 1103515245) + 12345) &&& 2147483647)))))
set_option maxHeartbeats 4000000 in
theorem K_X5_draws {g : xm_G} (hG : xm_Gw g) {h0 : xm_H} {m : Nat} {ad : Nat → Nat} (hM : xM_ok h0 m ad) (hB : xk_B g h0)  (σ : xM_S) {o : Int32 × xM_S} (e : F_X5_draws σ = some o) {Q : xm_P} {X : xm_X} (hQ : Q (some (.int o.1)) (xMp h0 m ad o.2)) : xm_Run g M_X5_draws 1 [.ref m] (xMp h0 m ad σ) 0 0 Q X := by
  refine xm_Run.of pn_StringTableauModel (Nat.le_of_ble_eq_true rfl) (fun Γ hΓ => ?_)
  obtain ⟨P0, hP0, hp⟩ : ∃ P : Int32 × xM_S → Prop, (∀ o, P o → Q (some (.int o.1)) (xMp h0 m ad o.2)) ∧ P o := ⟨fun o => Q (some (.int o.1)) (xMp h0 m ad o.2), fun _ h => h, hQ⟩
  clear hQ
  show xm_W g Γ 0 [some (.ref m)] [] (xMp h0 m ad σ) 0 0
  unfold F_X5_draws at e
  refine xw_ald (show xm_Imp g Γ 0 (xi_ald 0 1) from xs_aload_n hΓ dX5_draws_0) rfl ?_
  refine xw_mga (k := 1) (show xm_Imp g Γ 1 (xi_get 4 1 4) from xs_get hG hΓ (ci := 4) (kf := 1) rfl (Nat.le_of_ble_eq_true rfl) q2851 dX5_draws_1) (fun _ => rfl) ?_
  refine xw_psh (v := (.int (1))) (show xm_Imp g Γ 4 (xi_psh (.int (1)) 5) from xs_iconst hΓ dX5_draws_4 (by decide)) ?_
  refine xw_ald (show xm_Imp g Γ 5 (xi_ald 0 6) from xs_aload_n hΓ dX5_draws_5) rfl ?_
  refine xw_mga (k := 1) (show xm_Imp g Γ 6 (xi_get 4 1 9) from xs_get hG hΓ (ci := 4) (kf := 1) rfl (Nat.le_of_ble_eq_true rfl) q2851 dX5_draws_6) (fun _ => rfl) ?_
  refine xw_psh (v := (.int (1))) (show xm_Imp g Γ 9 (xi_psh (.int (1)) 10) from xs_iconst hΓ dX5_draws_9 (by decide)) ?_
  refine xw_mial (k := 1) (j := 1) (v := (σ.2 1 1)) (show xm_Imp g Γ 10 (xi_ial 11) from xs_ial hG hΓ dX5_draws_10) hM (by decide) rfl rfl rfl ?_
  refine xw_psh (v := (.int (1103515245))) (show xm_Imp g Γ 11 (xi_psh (.int (1103515245)) 13) from xs_ldc hG hΓ q3120 dX5_draws_11) ?_
  refine xw_ii (show xm_Imp g Γ 13 (xi_ii (fun x y => x * y) 14) from xs_imul hΓ dX5_draws_13) ?_
  refine xw_psh (v := (.int (12345))) (show xm_Imp g Γ 14 (xi_psh (.int (12345)) 17) from xs_sipush hΓ dX5_draws_14 (by decide)) ?_
  refine xw_ii (show xm_Imp g Γ 17 (xi_ii (fun x y => x + y) 18) from xs_iadd hΓ dX5_draws_17) ?_
  refine xw_psh (v := (.int (2147483647))) (show xm_Imp g Γ 18 (xi_psh (.int (2147483647)) 20) from xs_ldc hG hΓ q3121 dX5_draws_18) ?_
  refine xw_ii (show xm_Imp g Γ 20 (xi_ii (fun x y => x &&& y) 21) from xs_iand hΓ dX5_draws_20) ?_
  refine xw_mias (k := 1) (j := 1) (show xm_Imp g Γ 21 (xi_ias 22) from xs_ias hG hΓ dX5_draws_21) hM (by decide) rfl rfl ?_
  refine xw_ald (show xm_Imp g Γ 22 (xi_ald 0 23) from xs_aload_n hΓ dX5_draws_22) rfl ?_
  refine xw_mga (k := 1) (show xm_Imp g Γ 23 (xi_get 4 1 26) from xs_get hG hΓ (ci := 4) (kf := 1) rfl (Nat.le_of_ble_eq_true rfl) q2851 dX5_draws_23) (fun _ => rfl) ?_
  refine xw_psh (v := (.int (1))) (show xm_Imp g Γ 26 (xi_psh (.int (1)) 27) from xs_iconst hΓ dX5_draws_26 (by decide)) ?_
  refine xw_mial (k := 1) (j := 1) (v := (((σ.2 1 1) * 1103515245) + 12345) &&& 2147483647) (show xm_Imp g Γ 27 (xi_ial 28) from xs_ial hG hΓ dX5_draws_27) hM (by decide) rfl rfl rfl ?_
  refine xw_psh (v := (.int (65536))) (show xm_Imp g Γ 28 (xi_psh (.int (65536)) 30) from xs_ldc hG hΓ q3122 dX5_draws_28) ?_
  refine xw_id (show xm_Imp g Γ 30 (xi_id (fun x y => x / y) 31) from xs_idiv hΓ dX5_draws_30) (by decide) ?_
  refine xw_psh (v := (.int (2))) (show xm_Imp g Γ 31 (xi_psh (.int (2)) 32) from xs_iconst hΓ dX5_draws_31 (by decide)) ?_
  refine xw_id (show xm_Imp g Γ 32 (xi_id (fun x y => x - x / y * y) 33) from xs_irem hΓ dX5_draws_32) (by decide) ?_
  refine xw_if (show xm_Imp g Γ 33 (xi_if (fun x => x = 0) 36 40) from xs_if_ne hΓ dX5_draws_33 (by decide)) (fun c => ?_) (fun c => ?_)
  · rw [if_pos c] at e
    refine xw_psh (v := (.int (1))) (show xm_Imp g Γ 36 (xi_psh (.int (1)) 37) from xs_iconst hΓ dX5_draws_36 (by decide)) ?_
    refine xw_goto (show xm_Imp g Γ 37 (xi_goto 41) from xs_goto hΓ dX5_draws_37 (by decide)) ?_
    exact xw_iret (show xm_Imp g Γ 41 (xi_iret .int _) from xs_ireturn hΓ rfl dX5_draws_41) (xn_int _) (hP0 _ (xl_fin e hp))
  · rw [if_neg c] at e
    refine xw_psh (v := (.int (-1))) (show xm_Imp g Γ 40 (xi_psh (.int (-1)) 41) from xs_iconst hΓ dX5_draws_40 (by decide)) ?_
    exact xw_iret (show xm_Imp g Γ 41 (xi_iret .int _) from xs_ireturn hΓ rfl dX5_draws_41) (xn_int _) (hP0 _ (xl_fin e hp))
noncomputable def F_X5_multiplies (p1 : Int32) (p2 : Int32) (σ : xM_S) : Option (xM_S) :=
 xo_b (F_X5_takesRow p1 σ) (fun v1 =>
 xo_b (xa_ix 530 (6 + p2)) (fun j2 =>
 xo_b (xa_ix 530 (14 + p2)) (fun j3 =>
 xo_b (xa_ix 530 (22 + p2)) (fun j4 =>
 xo_b (F_X5_times (v1.2 1 j2) (v1.2 1 j3) (v1.2 1 j4) v1) (fun v5 =>
 xo_b (F_X5_laysRow p1 v5) (fun v6 =>
 some v6))))))
set_option maxHeartbeats 4000000 in
theorem K_X5_multiplies {g : xm_G} (hG : xm_Gw g) {h0 : xm_H} {m : Nat} {ad : Nat → Nat} (hM : xM_ok h0 m ad) (hB : xk_B g h0) (p1 : Int32) (p2 : Int32) (σ : xM_S) {o : xM_S} (e : F_X5_multiplies p1 p2 σ = some o) {Q : xm_P} {X : xm_X} (hQ : Q none (xMp h0 m ad o)) : xm_Run g M_X5_multiplies 5 [.ref m, .int p1, .int p2] (xMp h0 m ad σ) 0 0 Q X := by
  refine xm_Run.of pn_StringTableauModel (Nat.le_of_ble_eq_true rfl) (fun Γ hΓ => ?_)
  obtain ⟨P0, hP0, hp⟩ : ∃ P : xM_S → Prop, (∀ o, P o → Q none (xMp h0 m ad o)) ∧ P o := ⟨fun o => Q none (xMp h0 m ad o), fun _ h => h, hQ⟩
  clear hQ
  show xm_W g Γ 0 [some (.ref m), some (.int p1), some (.int p2)] [] (xMp h0 m ad σ) 0 0
  unfold F_X5_multiplies at e
  refine xw_ald (show xm_Imp g Γ 0 (xi_ald 0 1) from xs_aload_n hΓ dX5_multiplies_0) rfl ?_
  refine xw_ild (show xm_Imp g Γ 1 (xi_ild 1 2) from xs_iload_n hΓ dX5_multiplies_1) rfl ?_
  obtain ⟨v1, e1, e⟩ := xo_b_s e
  refine xw_mu1 (show xm_Imp g Γ 2 (xi_vir g 4 M_X5_takesRow 2 1 5) from xs_invV hG hΓ k_X5_takesRow rfl (ci := 4) rfl q3018 q3020 qs51 dX5_multiplies_2) rfl (fun Q X hQ => K_X5_takesRow hG hM hB p1 σ e1 hQ) ?_
  refine xw_ald (show xm_Imp g Γ 5 (xi_ald 0 6) from xs_aload_n hΓ dX5_multiplies_5) rfl ?_
  refine xw_ald (show xm_Imp g Γ 6 (xi_ald 0 7) from xs_aload_n hΓ dX5_multiplies_6) rfl ?_
  refine xw_mga (k := 1) (show xm_Imp g Γ 7 (xi_get 4 1 10) from xs_get hG hΓ (ci := 4) (kf := 1) rfl (Nat.le_of_ble_eq_true rfl) q2851 dX5_multiplies_7) (fun _ => rfl) ?_
  refine xw_psh (v := (.int (6))) (show xm_Imp g Γ 10 (xi_psh (.int (6)) 12) from xs_bipush hΓ dX5_multiplies_10 (by decide)) ?_
  refine xw_ild (show xm_Imp g Γ 12 (xi_ild 2 13) from xs_iload_n hΓ dX5_multiplies_12) rfl ?_
  refine xw_ii (show xm_Imp g Γ 13 (xi_ii (fun x y => x + y) 14) from xs_iadd hΓ dX5_multiplies_13) ?_
  obtain ⟨j2, e1, e⟩ := xo_b_s e
  refine xw_mial (k := 1) (v := (v1.2 1 j2)) (show xm_Imp g Γ 14 (xi_ial 15) from xs_ial hG hΓ dX5_multiplies_14) hM (by decide) rfl e1 rfl ?_
  refine xw_ald (show xm_Imp g Γ 15 (xi_ald 0 16) from xs_aload_n hΓ dX5_multiplies_15) rfl ?_
  refine xw_mga (k := 1) (show xm_Imp g Γ 16 (xi_get 4 1 19) from xs_get hG hΓ (ci := 4) (kf := 1) rfl (Nat.le_of_ble_eq_true rfl) q2851 dX5_multiplies_16) (fun _ => rfl) ?_
  refine xw_psh (v := (.int (14))) (show xm_Imp g Γ 19 (xi_psh (.int (14)) 21) from xs_bipush hΓ dX5_multiplies_19 (by decide)) ?_
  refine xw_ild (show xm_Imp g Γ 21 (xi_ild 2 22) from xs_iload_n hΓ dX5_multiplies_21) rfl ?_
  refine xw_ii (show xm_Imp g Γ 22 (xi_ii (fun x y => x + y) 23) from xs_iadd hΓ dX5_multiplies_22) ?_
  obtain ⟨j3, e1, e⟩ := xo_b_s e
  refine xw_mial (k := 1) (v := (v1.2 1 j3)) (show xm_Imp g Γ 23 (xi_ial 24) from xs_ial hG hΓ dX5_multiplies_23) hM (by decide) rfl e1 rfl ?_
  refine xw_ald (show xm_Imp g Γ 24 (xi_ald 0 25) from xs_aload_n hΓ dX5_multiplies_24) rfl ?_
  refine xw_mga (k := 1) (show xm_Imp g Γ 25 (xi_get 4 1 28) from xs_get hG hΓ (ci := 4) (kf := 1) rfl (Nat.le_of_ble_eq_true rfl) q2851 dX5_multiplies_25) (fun _ => rfl) ?_
  refine xw_psh (v := (.int (22))) (show xm_Imp g Γ 28 (xi_psh (.int (22)) 30) from xs_bipush hΓ dX5_multiplies_28 (by decide)) ?_
  refine xw_ild (show xm_Imp g Γ 30 (xi_ild 2 31) from xs_iload_n hΓ dX5_multiplies_30) rfl ?_
  refine xw_ii (show xm_Imp g Γ 31 (xi_ii (fun x y => x + y) 32) from xs_iadd hΓ dX5_multiplies_31) ?_
  obtain ⟨j4, e1, e⟩ := xo_b_s e
  refine xw_mial (k := 1) (v := (v1.2 1 j4)) (show xm_Imp g Γ 32 (xi_ial 33) from xs_ial hG hΓ dX5_multiplies_32) hM (by decide) rfl e1 rfl ?_
  obtain ⟨v5, e1, e⟩ := xo_b_s e
  refine xw_mu3 (show xm_Imp g Γ 33 (xi_vir g 4 M_X5_times 4 3 36) from xs_invV hG hΓ k_X5_times rfl (ci := 4) rfl q3101 q3103 qs67 dX5_multiplies_33) rfl (fun Q X hQ => K_X5_times hG hM hB (v1.2 1 j2) (v1.2 1 j3) (v1.2 1 j4) v1 e1 hQ) ?_
  refine xw_ald (show xm_Imp g Γ 36 (xi_ald 0 37) from xs_aload_n hΓ dX5_multiplies_36) rfl ?_
  refine xw_ild (show xm_Imp g Γ 37 (xi_ild 1 38) from xs_iload_n hΓ dX5_multiplies_37) rfl ?_
  obtain ⟨v6, e1, e⟩ := xo_b_s e
  refine xw_mu1 (show xm_Imp g Γ 38 (xi_vir g 4 M_X5_laysRow 1 1 41) from xs_invV hG hΓ k_X5_laysRow rfl (ci := 4) rfl q3044 q3046 qs56 dX5_multiplies_38) rfl (fun Q X hQ => K_X5_laysRow hG hM hB p1 v5 e1 hQ) ?_
  exact xw_vret (show xm_Imp g Γ 41 (xi_vret _) from xs_return hΓ rfl dX5_multiplies_41) (hP0 _ (xl_fin e hp))
noncomputable def B_X5_measures_127 (l6 : Int32) (l8 : Int32) (s1 : Int32) (s2 : Int32) (s3 : Int32) (σ : xM_S) : Option (Int32 × xM_S) :=
 xo_b (F_X5_laysRow l8 (F_X5_takes s1 s2 s3 σ)) (fun v4 =>
 xo_b (F_X5_records l6 1 v4) (fun v5 =>
 some ((l6, v5))))
noncomputable def B_X5_measures_105 (l1 : Int32) (l2 : Int32) (l3 : Int32) (l6 : Int32) (l7 : Int32) (l8 : Int32) (l9 : Int32) (σ : xM_S) : Option ((Int32 × xM_S) ⊕ (Int32 × xM_S)) :=
 some (Sum.inl (l9 + 1, σ))
noncomputable def D_X5_measures_76 (l1 : Int32) (l2 : Int32) (l3 : Int32) (l6 : Int32) (l7 : Int32) (l8 : Int32) (s : Int32 × xM_S) : Option ((Int32 × xM_S) ⊕ (Int32 × xM_S)) :=
 (if (s.2.2 1 0) ≤ s.1 then
 xl_o (B_X5_measures_127 l6 l8 l1 l2 (if l6 = 1 then l3 else 1 - l3) s.2) else
 (if (F_X5_has l7 s.1) = 0 then
 B_X5_measures_105 l1 l2 l3 l6 l7 l8 s.1 s.2 else
 xo_b (F_X5_multiplies s.1 l8 s.2) (fun v6 =>
 B_X5_measures_105 l1 l2 l3 l6 l7 l8 s.1 v6)))
noncomputable def L_X5_measures_76 (l1 : Int32) (l2 : Int32) (l3 : Int32) (l6 : Int32) (l7 : Int32) (l8 : Int32) (s : Int32 × xM_S) : Option (Int32 × xM_S) := xl_loop (D_X5_measures_76 l1 l2 l3 l6 l7 l8) s
noncomputable def D_X5_measures_51 (l1 : Int32) (l2 : Int32) (l3 : Int32) (l6 : Int32) (l7 : Int32) (σ : xM_S) (s : Int32) : Option ((Int32) ⊕ (Int32 × xM_S)) :=
 (if (F_X5_has l7 s) = 0 then
 some (Sum.inl (s + 1)) else
 xl_o (L_X5_measures_76 l1 l2 l3 l6 l7 s (s + 1, σ)))
noncomputable def L_X5_measures_51 (l1 : Int32) (l2 : Int32) (l3 : Int32) (l6 : Int32) (l7 : Int32) (σ : xM_S) (s : Int32) : Option (Int32 × xM_S) := xl_loop (D_X5_measures_51 l1 l2 l3 l6 l7 σ) s
noncomputable def B_X5_measures_38 (l1 : Int32) (l2 : Int32) (l3 : Int32) (s0 : Int32) (σ : xM_S) : Option (Int32 × xM_S) :=
 xo_b (F_X5_againstOf l1 l2 σ) (fun v3 =>
 L_X5_measures_51 l1 l2 l3 s0 v3 σ 0)
noncomputable def F_X5_measures (p1 : Int32) (p2 : Int32) (p3 : Int32) (p4 : Int32) (σ : xM_S) : Option (Int32 × xM_S) :=
 xo_b (F_X5_determined p1 p2 p3 σ) (fun v1 =>
 (if v1.1 = 0 then
 (if p4 = 0 then
 xo_b (F_X5_draws v1.2) (fun v2 =>
 B_X5_measures_38 p1 p2 p3 v2.1 v2.2) else
 B_X5_measures_38 p1 p2 p3 p4 v1.2) else
 xo_b (F_X5_records v1.1 0 v1.2) (fun v7 =>
 some ((v1.1, v7)))))
set_option maxHeartbeats 4000000 in
theorem K_X5_measures {g : xm_G} (hG : xm_Gw g) {h0 : xm_H} {m : Nat} {ad : Nat → Nat} (hM : xM_ok h0 m ad) (hB : xk_B g h0) (p1 : Int32) (p2 : Int32) (p3 : Int32) (p4 : Int32) (σ : xM_S) {o : Int32 × xM_S} (e : F_X5_measures p1 p2 p3 p4 σ = some o) {Q : xm_P} {X : xm_X} (hQ : Q (some (.int o.1)) (xMp h0 m ad o.2)) : xm_Run g M_X5_measures 8 [.ref m, .int p1, .int p2, .int p3, .int p4] (xMp h0 m ad σ) 0 0 Q X := by
  refine xm_Run.of pn_StringTableauModel (Nat.le_of_ble_eq_true rfl) (fun Γ hΓ => ?_)
  obtain ⟨P0, hP0, hp⟩ : ∃ P : Int32 × xM_S → Prop, (∀ o, P o → Q (some (.int o.1)) (xMp h0 m ad o.2)) ∧ P o := ⟨fun o => Q (some (.int o.1)) (xMp h0 m ad o.2), fun _ h => h, hQ⟩
  clear hQ
  show xm_W g Γ 0 [some (.ref m), some (.int p1), some (.int p2), some (.int p3), some (.int p4), none, none, none, none, none] [] (xMp h0 m ad σ) 0 0
  have hB_127 : ∀ (l6 : Int32) (l8 : Int32) (s1 : Int32) (s2 : Int32) (s3 : Int32) (σ : xM_S) (o : Int32 × xM_S), B_X5_measures_127 l6 l8 s1 s2 s3 σ = some o → P0 o → xm_W g Γ 127 [some (.ref m), none, none, none, none, none, some (.int l6), none, some (.int l8), none] [.int s3, .int s2, .int s1, .ref m] (xMp h0 m ad σ) 0 0 := by
    intro l6 l8 s1 s2 s3 σ o e hp
    unfold B_X5_measures_127 at e
    refine xw_mu3 (show xm_Imp g Γ 127 (xi_vir g 4 M_X5_takes 1 3 130) from xs_invV hG hΓ k_X5_takes rfl (ci := 4) rfl q3022 q3024 qs52 dX5_measures_127) rfl (fun Q X hQ => K_X5_takes hG hM hB s1 s2 s3 σ rfl hQ) ?_
    refine xw_ald (show xm_Imp g Γ 130 (xi_ald 0 131) from xs_aload_n hΓ dX5_measures_130) rfl ?_
    refine xw_ild (show xm_Imp g Γ 131 (xi_ild 8 133) from xs_iload hΓ dX5_measures_131) rfl ?_
    obtain ⟨v4, e1, e⟩ := xo_b_s e
    refine xw_mu1 (show xm_Imp g Γ 133 (xi_vir g 4 M_X5_laysRow 1 1 136) from xs_invV hG hΓ k_X5_laysRow rfl (ci := 4) rfl q3044 q3046 qs56 dX5_measures_133) rfl (fun Q X hQ => K_X5_laysRow hG hM hB l8 (F_X5_takes s1 s2 s3 σ) e1 hQ) ?_
    refine xw_ald (show xm_Imp g Γ 136 (xi_ald 0 137) from xs_aload_n hΓ dX5_measures_136) rfl ?_
    refine xw_ild (show xm_Imp g Γ 137 (xi_ild 6 139) from xs_iload hΓ dX5_measures_137) rfl ?_
    refine xw_psh (v := (.int (1))) (show xm_Imp g Γ 139 (xi_psh (.int (1)) 140) from xs_iconst hΓ dX5_measures_139 (by decide)) ?_
    obtain ⟨v5, e1, e⟩ := xo_b_s e
    refine xw_mu2 (show xm_Imp g Γ 140 (xi_vir g 4 M_X5_records 1 2 143) from xs_invV hG hΓ k_X5_records rfl (ci := 4) rfl q3112 q3114 qs69 dX5_measures_140) rfl (fun Q X hQ => K_X5_records hG hM hB l6 1 v4 e1 hQ) ?_
    refine xw_ild (show xm_Imp g Γ 143 (xi_ild 6 145) from xs_iload hΓ dX5_measures_143) rfl ?_
    exact xw_iret (show xm_Imp g Γ 145 (xi_iret .int _) from xs_ireturn hΓ rfl dX5_measures_145) (xn_int _) (hP0 _ (xl_fin e hp))
  have hL_76 : ∀ (l1 : Int32) (l2 : Int32) (l3 : Int32) (l6 : Int32) (l7 : Int32) (l8 : Int32) (s : Int32 × xM_S) (o : Int32 × xM_S), L_X5_measures_76 l1 l2 l3 l6 l7 l8 s = some o → P0 o → xm_W g Γ 76 [some (.ref m), some (.int l1), some (.int l2), some (.int l3), none, none, some (.int l6), some (.int l7), some (.int l8), some (.int s.1)] [] (xMp h0 m ad s.2) 0 0 := by
    intro l1 l2 l3 l6 l7 l8
    refine xl_rule (WS := fun s : Int32 × xM_S => xm_W g Γ 76 [some (.ref m), some (.int l1), some (.int l2), some (.int l3), none, none, some (.int l6), some (.int l7), some (.int l8), some (.int s.1)] [] (xMp h0 m ad s.2) 0 0) ?_
    intro s o e hp
    obtain ⟨P1, hP1, hp⟩ : ∃ P : (Int32 × xM_S) ⊕ (Int32 × xM_S) → Prop, (∀ o, P o → xl_P (fun s : Int32 × xM_S => xm_W g Γ 76 [some (.ref m), some (.int l1), some (.int l2), some (.int l3), none, none, some (.int l6), some (.int l7), some (.int l8), some (.int s.1)] [] (xMp h0 m ad s.2) 0 0) P0 o) ∧ P o := ⟨_, fun _ h => h, hp⟩
    have hB_105 : ∀ (l9 : Int32) (σ : xM_S) (o : (Int32 × xM_S) ⊕ (Int32 × xM_S)), B_X5_measures_105 l1 l2 l3 l6 l7 l8 l9 σ = some o → P1 o → xm_W g Γ 105 [some (.ref m), some (.int l1), some (.int l2), some (.int l3), none, none, some (.int l6), some (.int l7), some (.int l8), some (.int l9)] [] (xMp h0 m ad σ) 0 0 := by
      intro l9 σ o e hp
      unfold B_X5_measures_105 at e
      refine xw_inc (v := (1)) (ls' := [some (.ref m), some (.int l1), some (.int l2), some (.int l3), none, none, some (.int l6), some (.int l7), some (.int l8), some (.int (l9 + 1))]) (show xm_Imp g Γ 105 (xi_inc 9 (1) 108) from xs_iinc hΓ dX5_measures_105 (by decide) (Nat.le_of_ble_eq_true rfl)) rfl rfl ?_
      refine xw_goto (show xm_Imp g Γ 108 (xi_goto 76) from xs_goto hΓ dX5_measures_108 (by decide)) ?_
      have hq := xl_P_inl (hP1 _ (xl_fin e hp)); exact hq
    unfold D_X5_measures_76 at e
    refine xw_ild (show xm_Imp g Γ 76 (xi_ild 9 78) from xs_iload hΓ dX5_measures_76) rfl ?_
    refine xw_ald (show xm_Imp g Γ 78 (xi_ald 0 79) from xs_aload_n hΓ dX5_measures_78) rfl ?_
    refine xw_mga (k := 1) (show xm_Imp g Γ 79 (xi_get 4 1 82) from xs_get hG hΓ (ci := 4) (kf := 1) rfl (Nat.le_of_ble_eq_true rfl) q2851 dX5_measures_79) (fun _ => rfl) ?_
    refine xw_psh (v := (.int (0))) (show xm_Imp g Γ 82 (xi_psh (.int (0)) 83) from xs_iconst hΓ dX5_measures_82 (by decide)) ?_
    refine xw_mial (k := 1) (j := 0) (v := (s.2.2 1 0)) (show xm_Imp g Γ 83 (xi_ial 84) from xs_ial hG hΓ dX5_measures_83) hM (by decide) rfl rfl rfl ?_
    refine xw_ic (show xm_Imp g Γ 84 (xi_ic (fun x y => y ≤ x) 111 87) from xs_icmp_ge hΓ dX5_measures_84 (by decide)) (fun c => ?_) (fun c => ?_)
    · rw [if_pos c] at e
      obtain ⟨_, e, hp⟩ := xl_o_s e (hP1 _ hp)
      refine xw_ald (show xm_Imp g Γ 111 (xi_ald 0 112) from xs_aload_n hΓ dX5_measures_111) rfl ?_
      refine xw_ild (show xm_Imp g Γ 112 (xi_ild 1 113) from xs_iload_n hΓ dX5_measures_112) rfl ?_
      refine xw_ild (show xm_Imp g Γ 113 (xi_ild 2 114) from xs_iload_n hΓ dX5_measures_113) rfl ?_
      refine xw_ild (show xm_Imp g Γ 114 (xi_ild 6 116) from xs_iload hΓ dX5_measures_114) rfl ?_
      refine xw_psh (v := (.int (1))) (show xm_Imp g Γ 116 (xi_psh (.int (1)) 117) from xs_iconst hΓ dX5_measures_116 (by decide)) ?_
      refine xw_ic (show xm_Imp g Γ 117 (xi_ic (fun x y => x = y) 120 124) from xs_icmp_ne hΓ dX5_measures_117 (by decide)) (fun c => ?_) (fun c => ?_)
      · rw [if_pos c] at e
        refine xw_ild (show xm_Imp g Γ 120 (xi_ild 3 121) from xs_iload_n hΓ dX5_measures_120) rfl ?_
        refine xw_goto (show xm_Imp g Γ 121 (xi_goto 127) from xs_goto hΓ dX5_measures_121 (by decide)) ?_
        exact xm_lx (hB_127 _ _ _ _ _ _ _ e hp) (And.intro rfl (And.intro rfl (And.intro rfl (trivial))))
      · rw [if_neg c] at e
        refine xw_psh (v := (.int (1))) (show xm_Imp g Γ 124 (xi_psh (.int (1)) 125) from xs_iconst hΓ dX5_measures_124 (by decide)) ?_
        refine xw_ild (show xm_Imp g Γ 125 (xi_ild 3 126) from xs_iload_n hΓ dX5_measures_125) rfl ?_
        refine xw_ii (show xm_Imp g Γ 126 (xi_ii (fun x y => x - y) 127) from xs_isub hΓ dX5_measures_126) ?_
        exact xm_lx (hB_127 _ _ _ _ _ _ _ e hp) (And.intro rfl (And.intro rfl (And.intro rfl (trivial))))
    · rw [if_neg c] at e
      refine xw_ild (show xm_Imp g Γ 87 (xi_ild 7 89) from xs_iload hΓ dX5_measures_87) rfl ?_
      refine xw_ild (show xm_Imp g Γ 89 (xi_ild 9 91) from xs_iload hΓ dX5_measures_89) rfl ?_
      refine xw_sv2 (show xm_Imp g Γ 91 (xi_inv g M_X5_has 1 2 94) from xs_invS hG hΓ k_X5_has rfl q3037 q3038 dX5_measures_91) rfl (fun Q X hQ => K_X5_has hG l7 s.1 rfl hQ) ?_
      refine xw_if (show xm_Imp g Γ 94 (xi_if (fun x => x = 0) 105 97) from xs_if_eq hΓ dX5_measures_94 (by decide)) (fun c => ?_) (fun c => ?_)
      · rw [if_pos c] at e
        exact hB_105 _ _ _ e hp
      · rw [if_neg c] at e
        refine xw_ald (show xm_Imp g Γ 97 (xi_ald 0 98) from xs_aload_n hΓ dX5_measures_97) rfl ?_
        refine xw_ild (show xm_Imp g Γ 98 (xi_ild 9 100) from xs_iload hΓ dX5_measures_98) rfl ?_
        refine xw_ild (show xm_Imp g Γ 100 (xi_ild 8 102) from xs_iload hΓ dX5_measures_100) rfl ?_
        obtain ⟨v6, e1, e⟩ := xo_b_s e
        refine xw_mu2 (show xm_Imp g Γ 102 (xi_vir g 4 M_X5_multiplies 5 2 105) from xs_invV hG hΓ k_X5_multiplies rfl (ci := 4) rfl q3123 q3125 qs71 dX5_measures_102) rfl (fun Q X hQ => K_X5_multiplies hG hM hB s.1 l8 s.2 e1 hQ) ?_
        exact hB_105 _ _ _ e hp
  have hL_51 : ∀ (l1 : Int32) (l2 : Int32) (l3 : Int32) (l6 : Int32) (l7 : Int32) (σ : xM_S) (s : Int32) (o : Int32 × xM_S), L_X5_measures_51 l1 l2 l3 l6 l7 σ s = some o → P0 o → xm_W g Γ 51 [some (.ref m), some (.int l1), some (.int l2), some (.int l3), none, none, some (.int l6), some (.int l7), some (.int s), none] [] (xMp h0 m ad σ) 0 0 := by
    intro l1 l2 l3 l6 l7 σ
    refine xl_rule (WS := fun s : Int32 => xm_W g Γ 51 [some (.ref m), some (.int l1), some (.int l2), some (.int l3), none, none, some (.int l6), some (.int l7), some (.int s), none] [] (xMp h0 m ad σ) 0 0) ?_
    intro s o e hp
    obtain ⟨P1, hP1, hp⟩ : ∃ P : (Int32) ⊕ (Int32 × xM_S) → Prop, (∀ o, P o → xl_P (fun s : Int32 => xm_W g Γ 51 [some (.ref m), some (.int l1), some (.int l2), some (.int l3), none, none, some (.int l6), some (.int l7), some (.int s), none] [] (xMp h0 m ad σ) 0 0) P0 o) ∧ P o := ⟨_, fun _ h => h, hp⟩
    unfold D_X5_measures_51 at e
    refine xw_ild (show xm_Imp g Γ 51 (xi_ild 7 53) from xs_iload hΓ dX5_measures_51) rfl ?_
    refine xw_ild (show xm_Imp g Γ 53 (xi_ild 8 55) from xs_iload hΓ dX5_measures_53) rfl ?_
    refine xw_sv2 (show xm_Imp g Γ 55 (xi_inv g M_X5_has 1 2 58) from xs_invS hG hΓ k_X5_has rfl q3037 q3038 dX5_measures_55) rfl (fun Q X hQ => K_X5_has hG l7 s rfl hQ) ?_
    refine xw_if (show xm_Imp g Γ 58 (xi_if (fun x => x = 0) 61 70) from xs_if_ne hΓ dX5_measures_58 (by decide)) (fun c => ?_) (fun c => ?_)
    · rw [if_pos c] at e
      refine xw_ild (show xm_Imp g Γ 61 (xi_ild 8 63) from xs_iload hΓ dX5_measures_61) rfl ?_
      refine xw_psh (v := (.int (1))) (show xm_Imp g Γ 63 (xi_psh (.int (1)) 64) from xs_iconst hΓ dX5_measures_63 (by decide)) ?_
      refine xw_ii (show xm_Imp g Γ 64 (xi_ii (fun x y => x + y) 65) from xs_iadd hΓ dX5_measures_64) ?_
      refine xw_ist (ls' := [some (.ref m), some (.int l1), some (.int l2), some (.int l3), none, none, some (.int l6), some (.int l7), some (.int (s + 1)), none]) (show xm_Imp g Γ 65 (xi_ist 8 67) from xs_istore hΓ dX5_measures_65 (Nat.le_of_ble_eq_true rfl)) rfl ?_
      refine xw_goto (show xm_Imp g Γ 67 (xi_goto 51) from xs_goto hΓ dX5_measures_67 (by decide)) ?_
      have hq := xl_P_inl (hP1 _ (xl_fin e hp)); exact hq
    · rw [if_neg c] at e
      obtain ⟨_, e, hp⟩ := xl_o_s e (hP1 _ hp)
      refine xw_ild (show xm_Imp g Γ 70 (xi_ild 8 72) from xs_iload hΓ dX5_measures_70) rfl ?_
      refine xw_psh (v := (.int (1))) (show xm_Imp g Γ 72 (xi_psh (.int (1)) 73) from xs_iconst hΓ dX5_measures_72 (by decide)) ?_
      refine xw_ii (show xm_Imp g Γ 73 (xi_ii (fun x y => x + y) 74) from xs_iadd hΓ dX5_measures_73) ?_
      refine xw_ist (ls' := [some (.ref m), some (.int l1), some (.int l2), some (.int l3), none, none, some (.int l6), some (.int l7), some (.int s), some (.int (s + 1))]) (show xm_Imp g Γ 74 (xi_ist 9 76) from xs_istore hΓ dX5_measures_74 (Nat.le_of_ble_eq_true rfl)) rfl ?_
      exact hL_76 _ _ _ _ _ _ _ _ e hp
  have hB_38 : ∀ (l1 : Int32) (l2 : Int32) (l3 : Int32) (s0 : Int32) (σ : xM_S) (o : Int32 × xM_S), B_X5_measures_38 l1 l2 l3 s0 σ = some o → P0 o → xm_W g Γ 38 [some (.ref m), some (.int l1), some (.int l2), some (.int l3), none, none, none, none, none, none] [.int s0] (xMp h0 m ad σ) 0 0 := by
    intro l1 l2 l3 s0 σ o e hp
    unfold B_X5_measures_38 at e
    refine xw_ist (ls' := [some (.ref m), some (.int l1), some (.int l2), some (.int l3), none, none, some (.int s0), none, none, none]) (show xm_Imp g Γ 38 (xi_ist 6 40) from xs_istore hΓ dX5_measures_38 (Nat.le_of_ble_eq_true rfl)) rfl ?_
    refine xw_ald (show xm_Imp g Γ 40 (xi_ald 0 41) from xs_aload_n hΓ dX5_measures_40) rfl ?_
    refine xw_ild (show xm_Imp g Γ 41 (xi_ild 1 42) from xs_iload_n hΓ dX5_measures_41) rfl ?_
    refine xw_ild (show xm_Imp g Γ 42 (xi_ild 2 43) from xs_iload_n hΓ dX5_measures_42) rfl ?_
    obtain ⟨v3, e1, e⟩ := xo_b_s e
    refine xw_mv2 (show xm_Imp g Γ 43 (xi_vir g 4 M_X5_againstOf 4 2 46) from xs_invV hG hΓ k_X5_againstOf rfl (ci := 4) rfl q3086 q3088 qs64 dX5_measures_43) rfl (fun Q X hQ => K_X5_againstOf hG hM hB l1 l2 σ e1 hQ) ?_
    refine xw_ist (ls' := [some (.ref m), some (.int l1), some (.int l2), some (.int l3), none, none, some (.int s0), some (.int v3), none, none]) (show xm_Imp g Γ 46 (xi_ist 7 48) from xs_istore hΓ dX5_measures_46 (Nat.le_of_ble_eq_true rfl)) rfl ?_
    refine xw_psh (v := (.int (0))) (show xm_Imp g Γ 48 (xi_psh (.int (0)) 49) from xs_iconst hΓ dX5_measures_48 (by decide)) ?_
    refine xw_ist (ls' := [some (.ref m), some (.int l1), some (.int l2), some (.int l3), none, none, some (.int s0), some (.int v3), some (.int 0), none]) (show xm_Imp g Γ 49 (xi_ist 8 51) from xs_istore hΓ dX5_measures_49 (Nat.le_of_ble_eq_true rfl)) rfl ?_
    exact hL_51 _ _ _ _ _ _ _ _ e hp
  unfold F_X5_measures at e
  refine xw_ald (show xm_Imp g Γ 0 (xi_ald 0 1) from xs_aload_n hΓ dX5_measures_0) rfl ?_
  refine xw_ild (show xm_Imp g Γ 1 (xi_ild 1 2) from xs_iload_n hΓ dX5_measures_1) rfl ?_
  refine xw_ild (show xm_Imp g Γ 2 (xi_ild 2 3) from xs_iload_n hΓ dX5_measures_2) rfl ?_
  refine xw_ild (show xm_Imp g Γ 3 (xi_ild 3 4) from xs_iload_n hΓ dX5_measures_3) rfl ?_
  obtain ⟨v1, e1, e⟩ := xo_b_s e
  refine xw_mv3 (show xm_Imp g Γ 4 (xi_vir g 4 M_X5_determined 7 3 7) from xs_invV hG hΓ k_X5_determined rfl (ci := 4) rfl q3082 q3084 qs63 dX5_measures_4) rfl (fun Q X hQ => K_X5_determined hG hM hB p1 p2 p3 σ e1 hQ) ?_
  refine xw_ist (ls' := [some (.ref m), some (.int p1), some (.int p2), some (.int p3), some (.int p4), some (.int v1.1), none, none, none, none]) (show xm_Imp g Γ 7 (xi_ist 5 9) from xs_istore hΓ dX5_measures_7 (Nat.le_of_ble_eq_true rfl)) rfl ?_
  refine xw_ild (show xm_Imp g Γ 9 (xi_ild 5 11) from xs_iload hΓ dX5_measures_9) rfl ?_
  refine xw_if (show xm_Imp g Γ 11 (xi_if (fun x => x = 0) 24 14) from xs_if_eq hΓ dX5_measures_11 (by decide)) (fun c => ?_) (fun c => ?_)
  · rw [if_pos c] at e
    refine xw_ild (show xm_Imp g Γ 24 (xi_ild 4 26) from xs_iload hΓ dX5_measures_24) rfl ?_
    refine xw_if (show xm_Imp g Γ 26 (xi_if (fun x => x = 0) 29 36) from xs_if_ne hΓ dX5_measures_26 (by decide)) (fun c => ?_) (fun c => ?_)
    · rw [if_pos c] at e
      refine xw_ald (show xm_Imp g Γ 29 (xi_ald 0 30) from xs_aload_n hΓ dX5_measures_29) rfl ?_
      obtain ⟨v2, e1, e⟩ := xo_b_s e
      refine xw_mv0 (show xm_Imp g Γ 30 (xi_vir g 4 M_X5_draws 1 0 33) from xs_invV hG hΓ k_X5_draws rfl (ci := 4) rfl q3116 q3118 qs70 dX5_measures_30) rfl (fun Q X hQ => K_X5_draws hG hM hB v1.2 e1 hQ) ?_
      refine xw_goto (show xm_Imp g Γ 33 (xi_goto 38) from xs_goto hΓ dX5_measures_33 (by decide)) ?_
      exact xm_lx (hB_38 _ _ _ _ _ _ e hp) (And.intro rfl (And.intro rfl (And.intro rfl (And.intro rfl (trivial)))))
    · rw [if_neg c] at e
      refine xw_ild (show xm_Imp g Γ 36 (xi_ild 4 38) from xs_iload hΓ dX5_measures_36) rfl ?_
      exact xm_lx (hB_38 _ _ _ _ _ _ e hp) (And.intro rfl (And.intro rfl (And.intro rfl (And.intro rfl (trivial)))))
  · rw [if_neg c] at e
    refine xw_ald (show xm_Imp g Γ 14 (xi_ald 0 15) from xs_aload_n hΓ dX5_measures_14) rfl ?_
    refine xw_ild (show xm_Imp g Γ 15 (xi_ild 5 17) from xs_iload hΓ dX5_measures_15) rfl ?_
    refine xw_psh (v := (.int (0))) (show xm_Imp g Γ 17 (xi_psh (.int (0)) 18) from xs_iconst hΓ dX5_measures_17 (by decide)) ?_
    obtain ⟨v7, e1, e⟩ := xo_b_s e
    refine xw_mu2 (show xm_Imp g Γ 18 (xi_vir g 4 M_X5_records 1 2 21) from xs_invV hG hΓ k_X5_records rfl (ci := 4) rfl q3112 q3114 qs69 dX5_measures_18) rfl (fun Q X hQ => K_X5_records hG hM hB v1.1 0 v1.2 e1 hQ) ?_
    refine xw_ild (show xm_Imp g Γ 21 (xi_ild 5 23) from xs_iload hΓ dX5_measures_21) rfl ?_
    exact xw_iret (show xm_Imp g Γ 23 (xi_iret .int _) from xs_ireturn hΓ rfl dX5_measures_23) (xn_int _) (hP0 _ (xl_fin e hp))
noncomputable def B_X5_measure_83 (l4 : Int32) (s1 : Int32) (s2 : Int32) (s3 : Int32) (σ : xM_S) : Option (Int32 × xM_S) :=
 xo_b (F_X5_measures s1 s2 s3 l4 σ) (fun v5 =>
 xo_b (F_X5_keeps v5.2) (fun v6 =>
 some ((v5.1, v6))))
noncomputable def B_X5_measure_53 (l1 : Int32) (l2 : Int32) (l3 : Int32) (l4 : Int32) (s2 : Int32) (s3 : Int32) (s4 : Int32) (σ : xM_S) : Option (Int32 × xM_S) :=
 xo_b (F_X5_canMeasure s2 s3 s4 l4 σ) (fun v2 =>
 xo_b (F_X5_may v2.1 2 v2.2) (fun v3 =>
 (if v3.1 = 0 then
 some ((0, v3.2)) else
 xo_b (F_X5_starts v3.2) (fun v4 =>
 B_X5_measure_83 l4 l1 l2 (if l3 = 0 then 0 else 1) v4))))
noncomputable def B_X5_measure_34 (l1 : Int32) (l2 : Int32) (l3 : Int32) (l4 : Int32) (s1 : Int32) (σ : xM_S) : Option (Int32 × xM_S) :=
 xo_b (F_X5_is s1 σ) (fun v1 =>
 (if v1.1 = 0 then
 some ((0, v1.2)) else
 B_X5_measure_53 l1 l2 l3 l4 l1 l2 (if l3 = 0 then 0 else 1) v1.2))
noncomputable def F_X5_measure (p1 : Int32) (p2 : Int32) (p3 : Int32) (p4 : Int32) (σ : xM_S) : Option (Int32 × xM_S) :=
 B_X5_measure_34 p1 p2 p3 p4 (if (F_X5_areMasks p1 p2 σ) = 0 then 0 else (if (p1 ||| p2) = 0 then 0 else (if (F_X5_isIn p4.toInt64 (-1) 1) = 0 then 0 else 1))) σ
set_option maxHeartbeats 4000000 in
theorem K_X5_measure {g : xm_G} (hG : xm_Gw g) {h0 : xm_H} {m : Nat} {ad : Nat → Nat} (hM : xM_ok h0 m ad) (hB : xk_B g h0) (p1 : Int32) (p2 : Int32) (p3 : Int32) (p4 : Int32) (σ : xM_S) {o : Int32 × xM_S} (e : F_X5_measure p1 p2 p3 p4 σ = some o) {Q : xm_P} {X : xm_X} (hQ : Q (some (.int o.1)) (xMp h0 m ad o.2)) : xm_Run g M_X5_measure 9 [.ref m, .int p1, .int p2, .int p3, .int p4] (xMp h0 m ad σ) 0 0 Q X := by
  refine xm_Run.of pn_StringTableauModel (Nat.le_of_ble_eq_true rfl) (fun Γ hΓ => ?_)
  obtain ⟨P0, hP0, hp⟩ : ∃ P : Int32 × xM_S → Prop, (∀ o, P o → Q (some (.int o.1)) (xMp h0 m ad o.2)) ∧ P o := ⟨fun o => Q (some (.int o.1)) (xMp h0 m ad o.2), fun _ h => h, hQ⟩
  clear hQ
  show xm_W g Γ 0 [some (.ref m), some (.int p1), some (.int p2), some (.int p3), some (.int p4), none] [] (xMp h0 m ad σ) 0 0
  have hB_83 : ∀ (l4 : Int32) (s1 : Int32) (s2 : Int32) (s3 : Int32) (σ : xM_S) (o : Int32 × xM_S), B_X5_measure_83 l4 s1 s2 s3 σ = some o → P0 o → xm_W g Γ 83 [some (.ref m), none, none, none, some (.int l4), none] [.int s3, .int s2, .int s1, .ref m] (xMp h0 m ad σ) 0 0 := by
    intro l4 s1 s2 s3 σ o e hp
    unfold B_X5_measure_83 at e
    refine xw_ild (show xm_Imp g Γ 83 (xi_ild 4 85) from xs_iload hΓ dX5_measure_83) rfl ?_
    obtain ⟨v5, e1, e⟩ := xo_b_s e
    refine xw_mv4 (show xm_Imp g Γ 85 (xi_vir g 4 M_X5_measures 8 4 88) from xs_invV hG hΓ k_X5_measures rfl (ci := 4) rfl q3108 q3110 qs68 dX5_measure_85) rfl (fun Q X hQ => K_X5_measures hG hM hB s1 s2 s3 l4 σ e1 hQ) ?_
    refine xw_ist (ls' := [some (.ref m), none, none, none, some (.int l4), some (.int v5.1)]) (show xm_Imp g Γ 88 (xi_ist 5 90) from xs_istore hΓ dX5_measure_88 (Nat.le_of_ble_eq_true rfl)) rfl ?_
    refine xw_ald (show xm_Imp g Γ 90 (xi_ald 0 91) from xs_aload_n hΓ dX5_measure_90) rfl ?_
    obtain ⟨v6, e1, e⟩ := xo_b_s e
    refine xw_mu0 (show xm_Imp g Γ 91 (xi_vir g 4 M_X5_keeps 1 0 94) from xs_invV hG hΓ k_X5_keeps rfl (ci := 4) rfl q3052 q3054 qs58 dX5_measure_91) rfl (fun Q X hQ => K_X5_keeps hG hM hB v5.2 e1 hQ) ?_
    refine xw_ild (show xm_Imp g Γ 94 (xi_ild 5 96) from xs_iload hΓ dX5_measure_94) rfl ?_
    exact xw_iret (show xm_Imp g Γ 96 (xi_iret .int _) from xs_ireturn hΓ rfl dX5_measure_96) (xn_int _) (hP0 _ (xl_fin e hp))
  have hB_53 : ∀ (l1 : Int32) (l2 : Int32) (l3 : Int32) (l4 : Int32) (s2 : Int32) (s3 : Int32) (s4 : Int32) (σ : xM_S) (o : Int32 × xM_S), B_X5_measure_53 l1 l2 l3 l4 s2 s3 s4 σ = some o → P0 o → xm_W g Γ 53 [some (.ref m), some (.int l1), some (.int l2), some (.int l3), some (.int l4), none] [.int s4, .int s3, .int s2, .ref m, .ref m] (xMp h0 m ad σ) 0 0 := by
    intro l1 l2 l3 l4 s2 s3 s4 σ o e hp
    unfold B_X5_measure_53 at e
    refine xw_ild (show xm_Imp g Γ 53 (xi_ild 4 55) from xs_iload hΓ dX5_measure_53) rfl ?_
    obtain ⟨v2, e1, e⟩ := xo_b_s e
    refine xw_mv4 (show xm_Imp g Γ 55 (xi_vir g 4 M_X5_canMeasure 8 4 58) from xs_invV hG hΓ k_X5_canMeasure rfl (ci := 4) rfl q3078 q3080 qs62 dX5_measure_55) rfl (fun Q X hQ => K_X5_canMeasure hG hM hB s2 s3 s4 l4 σ e1 hQ) ?_
    refine xw_psh (v := (.int (2))) (show xm_Imp g Γ 58 (xi_psh (.int (2)) 59) from xs_iconst hΓ dX5_measure_58 (by decide)) ?_
    obtain ⟨v3, e1, e⟩ := xo_b_s e
    refine xw_mv2 (show xm_Imp g Γ 59 (xi_vir g 4 M_X5_may 1 2 62) from xs_invV hG hΓ k_X5_may rfl (ci := 4) rfl q3003 q3005 qs48 dX5_measure_59) rfl (fun Q X hQ => K_X5_may hG hM hB v2.1 2 v2.2 e1 hQ) ?_
    refine xw_if (show xm_Imp g Γ 62 (xi_if (fun x => x = 0) 65 67) from xs_if_ne hΓ dX5_measure_62 (by decide)) (fun c => ?_) (fun c => ?_)
    · rw [if_pos c] at e
      refine xw_psh (v := (.int (0))) (show xm_Imp g Γ 65 (xi_psh (.int (0)) 66) from xs_iconst hΓ dX5_measure_65 (by decide)) ?_
      exact xw_iret (show xm_Imp g Γ 66 (xi_iret .int _) from xs_ireturn hΓ rfl dX5_measure_66) (xn_int _) (hP0 _ (xl_fin e hp))
    · rw [if_neg c] at e
      refine xw_ald (show xm_Imp g Γ 67 (xi_ald 0 68) from xs_aload_n hΓ dX5_measure_67) rfl ?_
      obtain ⟨v4, e1, e⟩ := xo_b_s e
      refine xw_mu0 (show xm_Imp g Γ 68 (xi_vir g 4 M_X5_starts 2 0 71) from xs_invV hG hΓ k_X5_starts rfl (ci := 4) rfl q3007 q3009 qs49 dX5_measure_68) rfl (fun Q X hQ => K_X5_starts hG hM hB v3.2 e1 hQ) ?_
      refine xw_ald (show xm_Imp g Γ 71 (xi_ald 0 72) from xs_aload_n hΓ dX5_measure_71) rfl ?_
      refine xw_ild (show xm_Imp g Γ 72 (xi_ild 1 73) from xs_iload_n hΓ dX5_measure_72) rfl ?_
      refine xw_ild (show xm_Imp g Γ 73 (xi_ild 2 74) from xs_iload_n hΓ dX5_measure_73) rfl ?_
      refine xw_ild (show xm_Imp g Γ 74 (xi_ild 3 75) from xs_iload_n hΓ dX5_measure_74) rfl ?_
      refine xw_if (show xm_Imp g Γ 75 (xi_if (fun x => x = 0) 82 78) from xs_if_eq hΓ dX5_measure_75 (by decide)) (fun c => ?_) (fun c => ?_)
      · rw [if_pos c] at e
        refine xw_psh (v := (.int (0))) (show xm_Imp g Γ 82 (xi_psh (.int (0)) 83) from xs_iconst hΓ dX5_measure_82 (by decide)) ?_
        exact xm_lx (hB_83 _ _ _ _ _ _ e hp) (And.intro rfl (And.intro rfl (trivial)))
      · rw [if_neg c] at e
        refine xw_psh (v := (.int (1))) (show xm_Imp g Γ 78 (xi_psh (.int (1)) 79) from xs_iconst hΓ dX5_measure_78 (by decide)) ?_
        refine xw_goto (show xm_Imp g Γ 79 (xi_goto 83) from xs_goto hΓ dX5_measure_79 (by decide)) ?_
        exact xm_lx (hB_83 _ _ _ _ _ _ e hp) (And.intro rfl (And.intro rfl (trivial)))
  have hB_34 : ∀ (l1 : Int32) (l2 : Int32) (l3 : Int32) (l4 : Int32) (s1 : Int32) (σ : xM_S) (o : Int32 × xM_S), B_X5_measure_34 l1 l2 l3 l4 s1 σ = some o → P0 o → xm_W g Γ 34 [some (.ref m), some (.int l1), some (.int l2), some (.int l3), some (.int l4), none] [.int s1, .ref m] (xMp h0 m ad σ) 0 0 := by
    intro l1 l2 l3 l4 s1 σ o e hp
    unfold B_X5_measure_34 at e
    obtain ⟨v1, e1, e⟩ := xo_b_s e
    refine xw_mv1 (show xm_Imp g Γ 34 (xi_vir g 4 M_X5_is 1 1 37) from xs_invV hG hΓ k_X5_is rfl (ci := 4) rfl q2986 q2988 qs46 dX5_measure_34) rfl (fun Q X hQ => K_X5_is hG hM hB s1 σ e1 hQ) ?_
    refine xw_if (show xm_Imp g Γ 37 (xi_if (fun x => x = 0) 65 40) from xs_if_eq hΓ dX5_measure_37 (by decide)) (fun c => ?_) (fun c => ?_)
    · rw [if_pos c] at e
      refine xw_psh (v := (.int (0))) (show xm_Imp g Γ 65 (xi_psh (.int (0)) 66) from xs_iconst hΓ dX5_measure_65 (by decide)) ?_
      exact xw_iret (show xm_Imp g Γ 66 (xi_iret .int _) from xs_ireturn hΓ rfl dX5_measure_66) (xn_int _) (hP0 _ (xl_fin e hp))
    · rw [if_neg c] at e
      refine xw_ald (show xm_Imp g Γ 40 (xi_ald 0 41) from xs_aload_n hΓ dX5_measure_40) rfl ?_
      refine xw_ald (show xm_Imp g Γ 41 (xi_ald 0 42) from xs_aload_n hΓ dX5_measure_41) rfl ?_
      refine xw_ild (show xm_Imp g Γ 42 (xi_ild 1 43) from xs_iload_n hΓ dX5_measure_42) rfl ?_
      refine xw_ild (show xm_Imp g Γ 43 (xi_ild 2 44) from xs_iload_n hΓ dX5_measure_43) rfl ?_
      refine xw_ild (show xm_Imp g Γ 44 (xi_ild 3 45) from xs_iload_n hΓ dX5_measure_44) rfl ?_
      refine xw_if (show xm_Imp g Γ 45 (xi_if (fun x => x = 0) 52 48) from xs_if_eq hΓ dX5_measure_45 (by decide)) (fun c => ?_) (fun c => ?_)
      · rw [if_pos c] at e
        refine xw_psh (v := (.int (0))) (show xm_Imp g Γ 52 (xi_psh (.int (0)) 53) from xs_iconst hΓ dX5_measure_52 (by decide)) ?_
        exact hB_53 _ _ _ _ _ _ _ _ _ e hp
      · rw [if_neg c] at e
        refine xw_psh (v := (.int (1))) (show xm_Imp g Γ 48 (xi_psh (.int (1)) 49) from xs_iconst hΓ dX5_measure_48 (by decide)) ?_
        refine xw_goto (show xm_Imp g Γ 49 (xi_goto 53) from xs_goto hΓ dX5_measure_49 (by decide)) ?_
        exact hB_53 _ _ _ _ _ _ _ _ _ e hp
  unfold F_X5_measure at e
  refine xw_ald (show xm_Imp g Γ 0 (xi_ald 0 1) from xs_aload_n hΓ dX5_measure_0) rfl ?_
  refine xw_ald (show xm_Imp g Γ 1 (xi_ald 0 2) from xs_aload_n hΓ dX5_measure_1) rfl ?_
  refine xw_ild (show xm_Imp g Γ 2 (xi_ild 1 3) from xs_iload_n hΓ dX5_measure_2) rfl ?_
  refine xw_ild (show xm_Imp g Γ 3 (xi_ild 2 4) from xs_iload_n hΓ dX5_measure_3) rfl ?_
  refine xw_mv2 (show xm_Imp g Γ 4 (xi_vir g 4 M_X5_areMasks 2 2 7) from xs_invV hG hΓ k_X5_areMasks rfl (ci := 4) rfl q3069 q3071 qs60 dX5_measure_4) rfl (fun Q X hQ => K_X5_areMasks hG hM hB p1 p2 σ rfl hQ) ?_
  refine xw_if (show xm_Imp g Γ 7 (xi_if (fun x => x = 0) 33 10) from xs_if_eq hΓ dX5_measure_7 (by decide)) (fun c => ?_) (fun c => ?_)
  · rw [if_pos c] at e
    refine xw_psh (v := (.int (0))) (show xm_Imp g Γ 33 (xi_psh (.int (0)) 34) from xs_iconst hΓ dX5_measure_33 (by decide)) ?_
    exact hB_34 _ _ _ _ _ _ _ e hp
  · rw [if_neg c] at e
    refine xw_ild (show xm_Imp g Γ 10 (xi_ild 1 11) from xs_iload_n hΓ dX5_measure_10) rfl ?_
    refine xw_ild (show xm_Imp g Γ 11 (xi_ild 2 12) from xs_iload_n hΓ dX5_measure_11) rfl ?_
    refine xw_ii (show xm_Imp g Γ 12 (xi_ii (fun x y => x ||| y) 13) from xs_ior hΓ dX5_measure_12) ?_
    refine xw_if (show xm_Imp g Γ 13 (xi_if (fun x => x = 0) 33 16) from xs_if_eq hΓ dX5_measure_13 (by decide)) (fun c => ?_) (fun c => ?_)
    · rw [if_pos c] at e
      refine xw_psh (v := (.int (0))) (show xm_Imp g Γ 33 (xi_psh (.int (0)) 34) from xs_iconst hΓ dX5_measure_33 (by decide)) ?_
      exact hB_34 _ _ _ _ _ _ _ e hp
    · rw [if_neg c] at e
      refine xw_ild (show xm_Imp g Γ 16 (xi_ild 4 18) from xs_iload hΓ dX5_measure_16) rfl ?_
      refine xw_i2l (show xm_Imp g Γ 18 (xi_i2l 19) from xs_i2l hΓ dX5_measure_18) ?_
      refine xw_psh (v := (.long (-1))) (show xm_Imp g Γ 19 (xi_psh (.long (-1)) 22) from xs_ldc2 hG hΓ q3077 dX5_measure_19) ?_
      refine xw_psh (v := (.long 1)) (show xm_Imp g Γ 22 (xi_psh (.long 1) 23) from xs_lconst hΓ dX5_measure_22 (by decide)) ?_
      refine xw_sv3 (show xm_Imp g Γ 23 (xi_inv g M_X5_isIn 1 3 26) from xs_invS hG hΓ k_X5_isIn rfl q2996 q2997 dX5_measure_23) rfl (fun Q X hQ => K_X5_isIn hG p4.toInt64 (-1) 1 rfl hQ) ?_
      refine xw_if (show xm_Imp g Γ 26 (xi_if (fun x => x = 0) 33 29) from xs_if_eq hΓ dX5_measure_26 (by decide)) (fun c => ?_) (fun c => ?_)
      · rw [if_pos c] at e
        refine xw_psh (v := (.int (0))) (show xm_Imp g Γ 33 (xi_psh (.int (0)) 34) from xs_iconst hΓ dX5_measure_33 (by decide)) ?_
        exact hB_34 _ _ _ _ _ _ _ e hp
      · rw [if_neg c] at e
        refine xw_psh (v := (.int (1))) (show xm_Imp g Γ 29 (xi_psh (.int (1)) 30) from xs_iconst hΓ dX5_measure_29 (by decide)) ?_
        refine xw_goto (show xm_Imp g Γ 30 (xi_goto 34) from xs_goto hΓ dX5_measure_30 (by decide)) ?_
        exact hB_34 _ _ _ _ _ _ _ e hp
noncomputable def B_X5_measureAll_70 (l1 : Int32) (l2 : Int32) (σ : xM_S) : Option ((Int32 × Int32 × xM_S) ⊕ (Int32 × xM_S)) :=
 some (Sum.inl (l1, l2 + 1, σ))
noncomputable def D_X5_measureAll_40  (s : Int32 × Int32 × xM_S) : Option ((Int32 × Int32 × xM_S) ⊕ (Int32 × xM_S)) :=
 (if (s.2.2.2 1 0) ≤ s.2.1 then
 xl_o (xo_b (F_X5_keeps s.2.2) (fun v3 =>
 some ((s.1, v3)))) else
 xo_b (F_X5_measures 0 (1 <<< (s.2.1 &&& 31)) 0 0 s.2.2) (fun v4 =>
 B_X5_measureAll_70 (if v4.1 = (-1) then s.1 ||| (1 <<< (s.2.1 &&& 31)) else s.1) s.2.1 v4.2))
noncomputable def L_X5_measureAll_40  (s : Int32 × Int32 × xM_S) : Option (Int32 × xM_S) := xl_loop (D_X5_measureAll_40 ) s
noncomputable def B_X5_measureAll_24 (s1 : Int32) (σ : xM_S) : Option (Int32 × xM_S) :=
 xo_b (F_X5_is s1 σ) (fun v1 =>
 (if v1.1 = 0 then
 some ((0, v1.2)) else
 xo_b (F_X5_starts v1.2) (fun v2 =>
 L_X5_measureAll_40 (0, 0, v2))))
noncomputable def F_X5_measureAll (σ : xM_S) : Option (Int32 × xM_S) :=
 B_X5_measureAll_24 (if 100 < ((σ.2 1 4) + (σ.2 1 0)) then 0 else 1) σ
set_option maxHeartbeats 4000000 in
theorem K_X5_measureAll {g : xm_G} (hG : xm_Gw g) {h0 : xm_H} {m : Nat} {ad : Nat → Nat} (hM : xM_ok h0 m ad) (hB : xk_B g h0)  (σ : xM_S) {o : Int32 × xM_S} (e : F_X5_measureAll σ = some o) {Q : xm_P} {X : xm_X} (hQ : Q (some (.int o.1)) (xMp h0 m ad o.2)) : xm_Run g M_X5_measureAll 9 [.ref m] (xMp h0 m ad σ) 0 0 Q X := by
  refine xm_Run.of pn_StringTableauModel (Nat.le_of_ble_eq_true rfl) (fun Γ hΓ => ?_)
  obtain ⟨P0, hP0, hp⟩ : ∃ P : Int32 × xM_S → Prop, (∀ o, P o → Q (some (.int o.1)) (xMp h0 m ad o.2)) ∧ P o := ⟨fun o => Q (some (.int o.1)) (xMp h0 m ad o.2), fun _ h => h, hQ⟩
  clear hQ
  show xm_W g Γ 0 [some (.ref m), none, none] [] (xMp h0 m ad σ) 0 0
  have hL_40 : ∀  (s : Int32 × Int32 × xM_S) (o : Int32 × xM_S), L_X5_measureAll_40  s = some o → P0 o → xm_W g Γ 40 [some (.ref m), some (.int s.1), some (.int s.2.1)] [] (xMp h0 m ad s.2.2) 0 0 := by
    skip
    refine xl_rule (WS := fun s : Int32 × Int32 × xM_S => xm_W g Γ 40 [some (.ref m), some (.int s.1), some (.int s.2.1)] [] (xMp h0 m ad s.2.2) 0 0) ?_
    intro s o e hp
    obtain ⟨P1, hP1, hp⟩ : ∃ P : (Int32 × Int32 × xM_S) ⊕ (Int32 × xM_S) → Prop, (∀ o, P o → xl_P (fun s : Int32 × Int32 × xM_S => xm_W g Γ 40 [some (.ref m), some (.int s.1), some (.int s.2.1)] [] (xMp h0 m ad s.2.2) 0 0) P0 o) ∧ P o := ⟨_, fun _ h => h, hp⟩
    have hB_70 : ∀ (l1 : Int32) (l2 : Int32) (σ : xM_S) (o : (Int32 × Int32 × xM_S) ⊕ (Int32 × xM_S)), B_X5_measureAll_70 l1 l2 σ = some o → P1 o → xm_W g Γ 70 [some (.ref m), some (.int l1), some (.int l2)] [] (xMp h0 m ad σ) 0 0 := by
      intro l1 l2 σ o e hp
      unfold B_X5_measureAll_70 at e
      refine xw_inc (v := (1)) (ls' := [some (.ref m), some (.int l1), some (.int (l2 + 1))]) (show xm_Imp g Γ 70 (xi_inc 2 (1) 73) from xs_iinc hΓ dX5_measureAll_70 (by decide) (Nat.le_of_ble_eq_true rfl)) rfl rfl ?_
      refine xw_goto (show xm_Imp g Γ 73 (xi_goto 40) from xs_goto hΓ dX5_measureAll_73 (by decide)) ?_
      have hq := xl_P_inl (hP1 _ (xl_fin e hp)); exact hq
    unfold D_X5_measureAll_40 at e
    refine xw_ild (show xm_Imp g Γ 40 (xi_ild 2 41) from xs_iload_n hΓ dX5_measureAll_40) rfl ?_
    refine xw_ald (show xm_Imp g Γ 41 (xi_ald 0 42) from xs_aload_n hΓ dX5_measureAll_41) rfl ?_
    refine xw_mga (k := 1) (show xm_Imp g Γ 42 (xi_get 4 1 45) from xs_get hG hΓ (ci := 4) (kf := 1) rfl (Nat.le_of_ble_eq_true rfl) q2851 dX5_measureAll_42) (fun _ => rfl) ?_
    refine xw_psh (v := (.int (0))) (show xm_Imp g Γ 45 (xi_psh (.int (0)) 46) from xs_iconst hΓ dX5_measureAll_45 (by decide)) ?_
    refine xw_mial (k := 1) (j := 0) (v := (s.2.2.2 1 0)) (show xm_Imp g Γ 46 (xi_ial 47) from xs_ial hG hΓ dX5_measureAll_46) hM (by decide) rfl rfl rfl ?_
    refine xw_ic (show xm_Imp g Γ 47 (xi_ic (fun x y => y ≤ x) 76 50) from xs_icmp_ge hΓ dX5_measureAll_47 (by decide)) (fun c => ?_) (fun c => ?_)
    · rw [if_pos c] at e
      obtain ⟨_, e, hp⟩ := xl_o_s e (hP1 _ hp)
      refine xw_ald (show xm_Imp g Γ 76 (xi_ald 0 77) from xs_aload_n hΓ dX5_measureAll_76) rfl ?_
      obtain ⟨v3, e1, e⟩ := xo_b_s e
      refine xw_mu0 (show xm_Imp g Γ 77 (xi_vir g 4 M_X5_keeps 1 0 80) from xs_invV hG hΓ k_X5_keeps rfl (ci := 4) rfl q3052 q3054 qs58 dX5_measureAll_77) rfl (fun Q X hQ => K_X5_keeps hG hM hB s.2.2 e1 hQ) ?_
      refine xw_ild (show xm_Imp g Γ 80 (xi_ild 1 81) from xs_iload_n hΓ dX5_measureAll_80) rfl ?_
      exact xw_iret (show xm_Imp g Γ 81 (xi_iret .int _) from xs_ireturn hΓ rfl dX5_measureAll_81) (xn_int _) (hP0 _ (xl_fin e hp))
    · rw [if_neg c] at e
      refine xw_ald (show xm_Imp g Γ 50 (xi_ald 0 51) from xs_aload_n hΓ dX5_measureAll_50) rfl ?_
      refine xw_psh (v := (.int (0))) (show xm_Imp g Γ 51 (xi_psh (.int (0)) 52) from xs_iconst hΓ dX5_measureAll_51 (by decide)) ?_
      refine xw_psh (v := (.int (1))) (show xm_Imp g Γ 52 (xi_psh (.int (1)) 53) from xs_iconst hΓ dX5_measureAll_52 (by decide)) ?_
      refine xw_ild (show xm_Imp g Γ 53 (xi_ild 2 54) from xs_iload_n hΓ dX5_measureAll_53) rfl ?_
      refine xw_ii (show xm_Imp g Γ 54 (xi_ii (fun x y => x <<< (y &&& 31)) 55) from xs_ishl hΓ dX5_measureAll_54) ?_
      refine xw_psh (v := (.int (0))) (show xm_Imp g Γ 55 (xi_psh (.int (0)) 56) from xs_iconst hΓ dX5_measureAll_55 (by decide)) ?_
      refine xw_psh (v := (.int (0))) (show xm_Imp g Γ 56 (xi_psh (.int (0)) 57) from xs_iconst hΓ dX5_measureAll_56 (by decide)) ?_
      obtain ⟨v4, e1, e⟩ := xo_b_s e
      refine xw_mv4 (show xm_Imp g Γ 57 (xi_vir g 4 M_X5_measures 8 4 60) from xs_invV hG hΓ k_X5_measures rfl (ci := 4) rfl q3108 q3110 qs68 dX5_measureAll_57) rfl (fun Q X hQ => K_X5_measures hG hM hB 0 (1 <<< (s.2.1 &&& 31)) 0 0 s.2.2 e1 hQ) ?_
      refine xw_psh (v := (.int (-1))) (show xm_Imp g Γ 60 (xi_psh (.int (-1)) 61) from xs_iconst hΓ dX5_measureAll_60 (by decide)) ?_
      refine xw_ic (show xm_Imp g Γ 61 (xi_ic (fun x y => x = y) 64 70) from xs_icmp_ne hΓ dX5_measureAll_61 (by decide)) (fun c => ?_) (fun c => ?_)
      · rw [if_pos c] at e
        refine xw_ild (show xm_Imp g Γ 64 (xi_ild 1 65) from xs_iload_n hΓ dX5_measureAll_64) rfl ?_
        refine xw_psh (v := (.int (1))) (show xm_Imp g Γ 65 (xi_psh (.int (1)) 66) from xs_iconst hΓ dX5_measureAll_65 (by decide)) ?_
        refine xw_ild (show xm_Imp g Γ 66 (xi_ild 2 67) from xs_iload_n hΓ dX5_measureAll_66) rfl ?_
        refine xw_ii (show xm_Imp g Γ 67 (xi_ii (fun x y => x <<< (y &&& 31)) 68) from xs_ishl hΓ dX5_measureAll_67) ?_
        refine xw_ii (show xm_Imp g Γ 68 (xi_ii (fun x y => x ||| y) 69) from xs_ior hΓ dX5_measureAll_68) ?_
        refine xw_ist (ls' := [some (.ref m), some (.int (s.1 ||| (1 <<< (s.2.1 &&& 31)))), some (.int s.2.1)]) (show xm_Imp g Γ 69 (xi_ist 1 70) from xs_istore_n hΓ dX5_measureAll_69 (Nat.le_of_ble_eq_true rfl)) rfl ?_
        exact hB_70 _ _ _ _ e hp
      · rw [if_neg c] at e
        exact hB_70 _ _ _ _ e hp
  have hB_24 : ∀ (s1 : Int32) (σ : xM_S) (o : Int32 × xM_S), B_X5_measureAll_24 s1 σ = some o → P0 o → xm_W g Γ 24 [some (.ref m), none, none] [.int s1, .ref m] (xMp h0 m ad σ) 0 0 := by
    intro s1 σ o e hp
    unfold B_X5_measureAll_24 at e
    obtain ⟨v1, e1, e⟩ := xo_b_s e
    refine xw_mv1 (show xm_Imp g Γ 24 (xi_vir g 4 M_X5_is 1 1 27) from xs_invV hG hΓ k_X5_is rfl (ci := 4) rfl q2986 q2988 qs46 dX5_measureAll_24) rfl (fun Q X hQ => K_X5_is hG hM hB s1 σ e1 hQ) ?_
    refine xw_if (show xm_Imp g Γ 27 (xi_if (fun x => x = 0) 30 32) from xs_if_ne hΓ dX5_measureAll_27 (by decide)) (fun c => ?_) (fun c => ?_)
    · rw [if_pos c] at e
      refine xw_psh (v := (.int (0))) (show xm_Imp g Γ 30 (xi_psh (.int (0)) 31) from xs_iconst hΓ dX5_measureAll_30 (by decide)) ?_
      exact xw_iret (show xm_Imp g Γ 31 (xi_iret .int _) from xs_ireturn hΓ rfl dX5_measureAll_31) (xn_int _) (hP0 _ (xl_fin e hp))
    · rw [if_neg c] at e
      refine xw_ald (show xm_Imp g Γ 32 (xi_ald 0 33) from xs_aload_n hΓ dX5_measureAll_32) rfl ?_
      obtain ⟨v2, e1, e⟩ := xo_b_s e
      refine xw_mu0 (show xm_Imp g Γ 33 (xi_vir g 4 M_X5_starts 2 0 36) from xs_invV hG hΓ k_X5_starts rfl (ci := 4) rfl q3007 q3009 qs49 dX5_measureAll_33) rfl (fun Q X hQ => K_X5_starts hG hM hB v1.2 e1 hQ) ?_
      refine xw_psh (v := (.int (0))) (show xm_Imp g Γ 36 (xi_psh (.int (0)) 37) from xs_iconst hΓ dX5_measureAll_36 (by decide)) ?_
      refine xw_ist (ls' := [some (.ref m), some (.int 0), none]) (show xm_Imp g Γ 37 (xi_ist 1 38) from xs_istore_n hΓ dX5_measureAll_37 (Nat.le_of_ble_eq_true rfl)) rfl ?_
      refine xw_psh (v := (.int (0))) (show xm_Imp g Γ 38 (xi_psh (.int (0)) 39) from xs_iconst hΓ dX5_measureAll_38 (by decide)) ?_
      refine xw_ist (ls' := [some (.ref m), some (.int 0), some (.int 0)]) (show xm_Imp g Γ 39 (xi_ist 2 40) from xs_istore_n hΓ dX5_measureAll_39 (Nat.le_of_ble_eq_true rfl)) rfl ?_
      exact hL_40 _ _ e hp
  unfold F_X5_measureAll at e
  refine xw_ald (show xm_Imp g Γ 0 (xi_ald 0 1) from xs_aload_n hΓ dX5_measureAll_0) rfl ?_
  refine xw_ald (show xm_Imp g Γ 1 (xi_ald 0 2) from xs_aload_n hΓ dX5_measureAll_1) rfl ?_
  refine xw_mga (k := 1) (show xm_Imp g Γ 2 (xi_get 4 1 5) from xs_get hG hΓ (ci := 4) (kf := 1) rfl (Nat.le_of_ble_eq_true rfl) q2851 dX5_measureAll_2) (fun _ => rfl) ?_
  refine xw_psh (v := (.int (4))) (show xm_Imp g Γ 5 (xi_psh (.int (4)) 6) from xs_iconst hΓ dX5_measureAll_5 (by decide)) ?_
  refine xw_mial (k := 1) (j := 4) (v := (σ.2 1 4)) (show xm_Imp g Γ 6 (xi_ial 7) from xs_ial hG hΓ dX5_measureAll_6) hM (by decide) rfl rfl rfl ?_
  refine xw_ald (show xm_Imp g Γ 7 (xi_ald 0 8) from xs_aload_n hΓ dX5_measureAll_7) rfl ?_
  refine xw_mga (k := 1) (show xm_Imp g Γ 8 (xi_get 4 1 11) from xs_get hG hΓ (ci := 4) (kf := 1) rfl (Nat.le_of_ble_eq_true rfl) q2851 dX5_measureAll_8) (fun _ => rfl) ?_
  refine xw_psh (v := (.int (0))) (show xm_Imp g Γ 11 (xi_psh (.int (0)) 12) from xs_iconst hΓ dX5_measureAll_11 (by decide)) ?_
  refine xw_mial (k := 1) (j := 0) (v := (σ.2 1 0)) (show xm_Imp g Γ 12 (xi_ial 13) from xs_ial hG hΓ dX5_measureAll_12) hM (by decide) rfl rfl rfl ?_
  refine xw_ii (show xm_Imp g Γ 13 (xi_ii (fun x y => x + y) 14) from xs_iadd hΓ dX5_measureAll_13) ?_
  refine xw_psh (v := (.int (100))) (show xm_Imp g Γ 14 (xi_psh (.int (100)) 16) from xs_bipush hΓ dX5_measureAll_14 (by decide)) ?_
  refine xw_ic (show xm_Imp g Γ 16 (xi_ic (fun x y => y < x) 23 19) from xs_icmp_gt hΓ dX5_measureAll_16 (by decide)) (fun c => ?_) (fun c => ?_)
  · rw [if_pos c] at e
    refine xw_psh (v := (.int (0))) (show xm_Imp g Γ 23 (xi_psh (.int (0)) 24) from xs_iconst hΓ dX5_measureAll_23 (by decide)) ?_
    exact hB_24 _ _ _ e hp
  · rw [if_neg c] at e
    refine xw_psh (v := (.int (1))) (show xm_Imp g Γ 19 (xi_psh (.int (1)) 20) from xs_iconst hΓ dX5_measureAll_19 (by decide)) ?_
    refine xw_goto (show xm_Imp g Γ 20 (xi_goto 24) from xs_goto hΓ dX5_measureAll_20 (by decide)) ?_
    exact hB_24 _ _ _ e hp
noncomputable def B_X5_steps_43 (l1 : Int32) (s0 : Int32) (σ : xM_S) : Option (Int32 × xM_S) :=
 xo_b (xa_ix 60 l1) (fun j3 =>
 xo_b (xa_ix 60 l1) (fun j4 =>
 xo_b (xa_ix 60 l1) (fun j5 =>
 xo_b (F_X5_canMeasure (σ.2 13 j3) (σ.2 14 j4) s0 (σ.2 16 j5) σ) (fun v6 =>
 (if v6.1 = 0 then
 some (((-1), v6.2)) else
 xo_b (xa_ix 60 l1) (fun j7 =>
 xo_b (xa_ix 60 l1) (fun j8 =>
 xo_b (xa_ix 60 l1) (fun j9 =>
 xo_b (xa_ix 60 l1) (fun j10 =>
 xo_b (F_X5_measures (v6.2.2 13 j8) (v6.2.2 14 j9) s0 (v6.2.2 16 j10) v6.2) (fun v11 =>
 xo_b (xa_ix 530 (470 + (v6.2.2 17 j7))) (fun j12 =>
 some ((1, (xM_a (xM_a v11.2 1 j12 v11.1) 1 2 (l1 + 1)))))))))))))))
noncomputable def B_X5_steps_161 (l1 : Int32) (σ : xM_S) : Option (Int32 × xM_S) :=
 xo_b (xa_ix 60 l1) (fun j14 =>
 xo_b (xa_ix 60 l1) (fun j15 =>
 xo_b (xa_ix 60 l1) (fun j16 =>
 xo_b (F_X5_goes (σ.2 9 j14) (σ.2 10 j15) (σ.2 11 j16) σ) (fun v17 =>
 xo_b (xa_ix 60 l1) (fun j18 =>
 xo_b (xa_ix 60 l1) (fun j19 =>
 xo_b (xa_ix 60 l1) (fun j20 =>
 xo_b (F_X5_trails (v17.2 9 j18) (v17.2 10 j19) (v17.2 11 j20) v17) (fun v21 =>
 some ((1, v21))))))))))
noncomputable def F_X5_steps (σ : xM_S) : Option (Int32 × xM_S) :=
 (if (σ.2 1 2) = (σ.1 18) then
 some (((-1), σ)) else
 xo_b (xa_ix 60 (σ.2 1 2)) (fun j1 =>
 (if (σ.2 9 j1) = 9 then
 xo_b (xa_ix 60 (σ.2 1 2)) (fun j2 =>
 B_X5_steps_43 (σ.2 1 2) (if (σ.2 15 j2) = 1 then 0 else 1) σ) else
 xo_b (xa_ix 60 (σ.2 1 2)) (fun j13 =>
 (if (σ.2 12 j13) = (-1) then
 B_X5_steps_161 (σ.2 1 2) (xM_a σ 1 2 ((σ.2 1 2) + 1)) else
 xo_b (xa_ix 60 (σ.2 1 2)) (fun j22 =>
 xo_b (xa_ix 530 (470 + (σ.2 12 j22))) (fun j23 =>
 (if ((xM_a σ 1 2 ((σ.2 1 2) + 1)).2 1 j23) = 1 then
 some ((0, (xM_a σ 1 2 ((σ.2 1 2) + 1)))) else
 B_X5_steps_161 (σ.2 1 2) (xM_a σ 1 2 ((σ.2 1 2) + 1))))))))))
set_option maxHeartbeats 4000000 in
theorem K_X5_steps {g : xm_G} (hG : xm_Gw g) {h0 : xm_H} {m : Nat} {ad : Nat → Nat} (hM : xM_ok h0 m ad) (hB : xk_B g h0)  (σ : xM_S) {o : Int32 × xM_S} (e : F_X5_steps σ = some o) {Q : xm_P} {X : xm_X} (hQ : Q (some (.int o.1)) (xMp h0 m ad o.2)) : xm_Run g M_X5_steps 9 [.ref m] (xMp h0 m ad σ) 0 0 Q X := by
  refine xm_Run.of pn_StringTableauModel (Nat.le_of_ble_eq_true rfl) (fun Γ hΓ => ?_)
  obtain ⟨P0, hP0, hp⟩ : ∃ P : Int32 × xM_S → Prop, (∀ o, P o → Q (some (.int o.1)) (xMp h0 m ad o.2)) ∧ P o := ⟨fun o => Q (some (.int o.1)) (xMp h0 m ad o.2), fun _ h => h, hQ⟩
  clear hQ
  show xm_W g Γ 0 [some (.ref m), none, none] [] (xMp h0 m ad σ) 0 0
  have hB_43 : ∀ (l1 : Int32) (s0 : Int32) (σ : xM_S) (o : Int32 × xM_S), B_X5_steps_43 l1 s0 σ = some o → P0 o → xm_W g Γ 43 [some (.ref m), some (.int l1), none] [.int s0] (xMp h0 m ad σ) 0 0 := by
    intro l1 s0 σ o e hp
    unfold B_X5_steps_43 at e
    refine xw_ist (ls' := [some (.ref m), some (.int l1), some (.int s0)]) (show xm_Imp g Γ 43 (xi_ist 2 44) from xs_istore_n hΓ dX5_steps_43 (Nat.le_of_ble_eq_true rfl)) rfl ?_
    refine xw_ald (show xm_Imp g Γ 44 (xi_ald 0 45) from xs_aload_n hΓ dX5_steps_44) rfl ?_
    refine xw_ald (show xm_Imp g Γ 45 (xi_ald 0 46) from xs_aload_n hΓ dX5_steps_45) rfl ?_
    refine xw_mga (k := 13) (show xm_Imp g Γ 46 (xi_get 4 13 49) from xs_get hG hΓ (ci := 4) (kf := 13) rfl (Nat.le_of_ble_eq_true rfl) q2863 dX5_steps_46) (fun _ => rfl) ?_
    refine xw_ild (show xm_Imp g Γ 49 (xi_ild 1 50) from xs_iload_n hΓ dX5_steps_49) rfl ?_
    obtain ⟨j3, e1, e⟩ := xo_b_s e
    refine xw_mial (k := 13) (v := (σ.2 13 j3)) (show xm_Imp g Γ 50 (xi_ial 51) from xs_ial hG hΓ dX5_steps_50) hM (by decide) rfl e1 rfl ?_
    refine xw_ald (show xm_Imp g Γ 51 (xi_ald 0 52) from xs_aload_n hΓ dX5_steps_51) rfl ?_
    refine xw_mga (k := 14) (show xm_Imp g Γ 52 (xi_get 4 14 55) from xs_get hG hΓ (ci := 4) (kf := 14) rfl (Nat.le_of_ble_eq_true rfl) q2864 dX5_steps_52) (fun _ => rfl) ?_
    refine xw_ild (show xm_Imp g Γ 55 (xi_ild 1 56) from xs_iload_n hΓ dX5_steps_55) rfl ?_
    obtain ⟨j4, e1, e⟩ := xo_b_s e
    refine xw_mial (k := 14) (v := (σ.2 14 j4)) (show xm_Imp g Γ 56 (xi_ial 57) from xs_ial hG hΓ dX5_steps_56) hM (by decide) rfl e1 rfl ?_
    refine xw_ild (show xm_Imp g Γ 57 (xi_ild 2 58) from xs_iload_n hΓ dX5_steps_57) rfl ?_
    refine xw_ald (show xm_Imp g Γ 58 (xi_ald 0 59) from xs_aload_n hΓ dX5_steps_58) rfl ?_
    refine xw_mga (k := 16) (show xm_Imp g Γ 59 (xi_get 4 16 62) from xs_get hG hΓ (ci := 4) (kf := 16) rfl (Nat.le_of_ble_eq_true rfl) q2866 dX5_steps_59) (fun _ => rfl) ?_
    refine xw_ild (show xm_Imp g Γ 62 (xi_ild 1 63) from xs_iload_n hΓ dX5_steps_62) rfl ?_
    obtain ⟨j5, e1, e⟩ := xo_b_s e
    refine xw_mial (k := 16) (v := (σ.2 16 j5)) (show xm_Imp g Γ 63 (xi_ial 64) from xs_ial hG hΓ dX5_steps_63) hM (by decide) rfl e1 rfl ?_
    obtain ⟨v6, e1, e⟩ := xo_b_s e
    refine xw_mv4 (show xm_Imp g Γ 64 (xi_vir g 4 M_X5_canMeasure 8 4 67) from xs_invV hG hΓ k_X5_canMeasure rfl (ci := 4) rfl q3078 q3080 qs62 dX5_steps_64) rfl (fun Q X hQ => K_X5_canMeasure hG hM hB (σ.2 13 j3) (σ.2 14 j4) s0 (σ.2 16 j5) σ e1 hQ) ?_
    refine xw_if (show xm_Imp g Γ 67 (xi_if (fun x => x = 0) 70 72) from xs_if_ne hΓ dX5_steps_67 (by decide)) (fun c => ?_) (fun c => ?_)
    · rw [if_pos c] at e
      refine xw_psh (v := (.int (-1))) (show xm_Imp g Γ 70 (xi_psh (.int (-1)) 71) from xs_iconst hΓ dX5_steps_70 (by decide)) ?_
      exact xw_iret (show xm_Imp g Γ 71 (xi_iret .int _) from xs_ireturn hΓ rfl dX5_steps_71) (xn_int _) (hP0 _ (xl_fin e hp))
    · rw [if_neg c] at e
      refine xw_ald (show xm_Imp g Γ 72 (xi_ald 0 73) from xs_aload_n hΓ dX5_steps_72) rfl ?_
      refine xw_mga (k := 1) (show xm_Imp g Γ 73 (xi_get 4 1 76) from xs_get hG hΓ (ci := 4) (kf := 1) rfl (Nat.le_of_ble_eq_true rfl) q2851 dX5_steps_73) (fun _ => rfl) ?_
      refine xw_psh (v := (.int (470))) (show xm_Imp g Γ 76 (xi_psh (.int (470)) 79) from xs_sipush hΓ dX5_steps_76 (by decide)) ?_
      refine xw_ald (show xm_Imp g Γ 79 (xi_ald 0 80) from xs_aload_n hΓ dX5_steps_79) rfl ?_
      refine xw_mga (k := 17) (show xm_Imp g Γ 80 (xi_get 4 17 83) from xs_get hG hΓ (ci := 4) (kf := 17) rfl (Nat.le_of_ble_eq_true rfl) q2867 dX5_steps_80) (fun _ => rfl) ?_
      refine xw_ild (show xm_Imp g Γ 83 (xi_ild 1 84) from xs_iload_n hΓ dX5_steps_83) rfl ?_
      obtain ⟨j7, e1, e⟩ := xo_b_s e
      refine xw_mial (k := 17) (v := (v6.2.2 17 j7)) (show xm_Imp g Γ 84 (xi_ial 85) from xs_ial hG hΓ dX5_steps_84) hM (by decide) rfl e1 rfl ?_
      refine xw_ii (show xm_Imp g Γ 85 (xi_ii (fun x y => x + y) 86) from xs_iadd hΓ dX5_steps_85) ?_
      refine xw_ald (show xm_Imp g Γ 86 (xi_ald 0 87) from xs_aload_n hΓ dX5_steps_86) rfl ?_
      refine xw_ald (show xm_Imp g Γ 87 (xi_ald 0 88) from xs_aload_n hΓ dX5_steps_87) rfl ?_
      refine xw_mga (k := 13) (show xm_Imp g Γ 88 (xi_get 4 13 91) from xs_get hG hΓ (ci := 4) (kf := 13) rfl (Nat.le_of_ble_eq_true rfl) q2863 dX5_steps_88) (fun _ => rfl) ?_
      refine xw_ild (show xm_Imp g Γ 91 (xi_ild 1 92) from xs_iload_n hΓ dX5_steps_91) rfl ?_
      obtain ⟨j8, e1, e⟩ := xo_b_s e
      refine xw_mial (k := 13) (v := (v6.2.2 13 j8)) (show xm_Imp g Γ 92 (xi_ial 93) from xs_ial hG hΓ dX5_steps_92) hM (by decide) rfl e1 rfl ?_
      refine xw_ald (show xm_Imp g Γ 93 (xi_ald 0 94) from xs_aload_n hΓ dX5_steps_93) rfl ?_
      refine xw_mga (k := 14) (show xm_Imp g Γ 94 (xi_get 4 14 97) from xs_get hG hΓ (ci := 4) (kf := 14) rfl (Nat.le_of_ble_eq_true rfl) q2864 dX5_steps_94) (fun _ => rfl) ?_
      refine xw_ild (show xm_Imp g Γ 97 (xi_ild 1 98) from xs_iload_n hΓ dX5_steps_97) rfl ?_
      obtain ⟨j9, e1, e⟩ := xo_b_s e
      refine xw_mial (k := 14) (v := (v6.2.2 14 j9)) (show xm_Imp g Γ 98 (xi_ial 99) from xs_ial hG hΓ dX5_steps_98) hM (by decide) rfl e1 rfl ?_
      refine xw_ild (show xm_Imp g Γ 99 (xi_ild 2 100) from xs_iload_n hΓ dX5_steps_99) rfl ?_
      refine xw_ald (show xm_Imp g Γ 100 (xi_ald 0 101) from xs_aload_n hΓ dX5_steps_100) rfl ?_
      refine xw_mga (k := 16) (show xm_Imp g Γ 101 (xi_get 4 16 104) from xs_get hG hΓ (ci := 4) (kf := 16) rfl (Nat.le_of_ble_eq_true rfl) q2866 dX5_steps_101) (fun _ => rfl) ?_
      refine xw_ild (show xm_Imp g Γ 104 (xi_ild 1 105) from xs_iload_n hΓ dX5_steps_104) rfl ?_
      obtain ⟨j10, e1, e⟩ := xo_b_s e
      refine xw_mial (k := 16) (v := (v6.2.2 16 j10)) (show xm_Imp g Γ 105 (xi_ial 106) from xs_ial hG hΓ dX5_steps_105) hM (by decide) rfl e1 rfl ?_
      obtain ⟨v11, e1, e⟩ := xo_b_s e
      refine xw_mv4 (show xm_Imp g Γ 106 (xi_vir g 4 M_X5_measures 8 4 109) from xs_invV hG hΓ k_X5_measures rfl (ci := 4) rfl q3108 q3110 qs68 dX5_steps_106) rfl (fun Q X hQ => K_X5_measures hG hM hB (v6.2.2 13 j8) (v6.2.2 14 j9) s0 (v6.2.2 16 j10) v6.2 e1 hQ) ?_
      obtain ⟨j12, e1, e⟩ := xo_b_s e
      refine xw_mias (k := 1) (show xm_Imp g Γ 109 (xi_ias 110) from xs_ias hG hΓ dX5_steps_109) hM (by decide) rfl e1 ?_
      refine xw_ald (show xm_Imp g Γ 110 (xi_ald 0 111) from xs_aload_n hΓ dX5_steps_110) rfl ?_
      refine xw_mga (k := 1) (show xm_Imp g Γ 111 (xi_get 4 1 114) from xs_get hG hΓ (ci := 4) (kf := 1) rfl (Nat.le_of_ble_eq_true rfl) q2851 dX5_steps_111) (fun _ => rfl) ?_
      refine xw_psh (v := (.int (2))) (show xm_Imp g Γ 114 (xi_psh (.int (2)) 115) from xs_iconst hΓ dX5_steps_114 (by decide)) ?_
      refine xw_ild (show xm_Imp g Γ 115 (xi_ild 1 116) from xs_iload_n hΓ dX5_steps_115) rfl ?_
      refine xw_psh (v := (.int (1))) (show xm_Imp g Γ 116 (xi_psh (.int (1)) 117) from xs_iconst hΓ dX5_steps_116 (by decide)) ?_
      refine xw_ii (show xm_Imp g Γ 117 (xi_ii (fun x y => x + y) 118) from xs_iadd hΓ dX5_steps_117) ?_
      refine xw_mias (k := 1) (j := 2) (show xm_Imp g Γ 118 (xi_ias 119) from xs_ias hG hΓ dX5_steps_118) hM (by decide) rfl rfl ?_
      refine xw_psh (v := (.int (1))) (show xm_Imp g Γ 119 (xi_psh (.int (1)) 120) from xs_iconst hΓ dX5_steps_119 (by decide)) ?_
      exact xw_iret (show xm_Imp g Γ 120 (xi_iret .int _) from xs_ireturn hΓ rfl dX5_steps_120) (xn_int _) (hP0 _ (xl_fin e hp))
  have hB_161 : ∀ (l1 : Int32) (σ : xM_S) (o : Int32 × xM_S), B_X5_steps_161 l1 σ = some o → P0 o → xm_W g Γ 161 [some (.ref m), some (.int l1), none] [] (xMp h0 m ad σ) 0 0 := by
    intro l1 σ o e hp
    unfold B_X5_steps_161 at e
    refine xw_ald (show xm_Imp g Γ 161 (xi_ald 0 162) from xs_aload_n hΓ dX5_steps_161) rfl ?_
    refine xw_ald (show xm_Imp g Γ 162 (xi_ald 0 163) from xs_aload_n hΓ dX5_steps_162) rfl ?_
    refine xw_mga (k := 9) (show xm_Imp g Γ 163 (xi_get 4 9 166) from xs_get hG hΓ (ci := 4) (kf := 9) rfl (Nat.le_of_ble_eq_true rfl) q2859 dX5_steps_163) (fun _ => rfl) ?_
    refine xw_ild (show xm_Imp g Γ 166 (xi_ild 1 167) from xs_iload_n hΓ dX5_steps_166) rfl ?_
    obtain ⟨j14, e1, e⟩ := xo_b_s e
    refine xw_mial (k := 9) (v := (σ.2 9 j14)) (show xm_Imp g Γ 167 (xi_ial 168) from xs_ial hG hΓ dX5_steps_167) hM (by decide) rfl e1 rfl ?_
    refine xw_ald (show xm_Imp g Γ 168 (xi_ald 0 169) from xs_aload_n hΓ dX5_steps_168) rfl ?_
    refine xw_mga (k := 10) (show xm_Imp g Γ 169 (xi_get 4 10 172) from xs_get hG hΓ (ci := 4) (kf := 10) rfl (Nat.le_of_ble_eq_true rfl) q2860 dX5_steps_169) (fun _ => rfl) ?_
    refine xw_ild (show xm_Imp g Γ 172 (xi_ild 1 173) from xs_iload_n hΓ dX5_steps_172) rfl ?_
    obtain ⟨j15, e1, e⟩ := xo_b_s e
    refine xw_mial (k := 10) (v := (σ.2 10 j15)) (show xm_Imp g Γ 173 (xi_ial 174) from xs_ial hG hΓ dX5_steps_173) hM (by decide) rfl e1 rfl ?_
    refine xw_ald (show xm_Imp g Γ 174 (xi_ald 0 175) from xs_aload_n hΓ dX5_steps_174) rfl ?_
    refine xw_mga (k := 11) (show xm_Imp g Γ 175 (xi_get 4 11 178) from xs_get hG hΓ (ci := 4) (kf := 11) rfl (Nat.le_of_ble_eq_true rfl) q2861 dX5_steps_175) (fun _ => rfl) ?_
    refine xw_ild (show xm_Imp g Γ 178 (xi_ild 1 179) from xs_iload_n hΓ dX5_steps_178) rfl ?_
    obtain ⟨j16, e1, e⟩ := xo_b_s e
    refine xw_mial (k := 11) (v := (σ.2 11 j16)) (show xm_Imp g Γ 179 (xi_ial 180) from xs_ial hG hΓ dX5_steps_179) hM (by decide) rfl e1 rfl ?_
    obtain ⟨v17, e1, e⟩ := xo_b_s e
    refine xw_mu3 (show xm_Imp g Γ 180 (xi_vir g 4 M_X5_goes 5 3 183) from xs_invV hG hΓ k_X5_goes rfl (ci := 4) rfl q3014 q3016 qs50 dX5_steps_180) rfl (fun Q X hQ => K_X5_goes hG hM hB (σ.2 9 j14) (σ.2 10 j15) (σ.2 11 j16) σ e1 hQ) ?_
    refine xw_ald (show xm_Imp g Γ 183 (xi_ald 0 184) from xs_aload_n hΓ dX5_steps_183) rfl ?_
    refine xw_ald (show xm_Imp g Γ 184 (xi_ald 0 185) from xs_aload_n hΓ dX5_steps_184) rfl ?_
    refine xw_mga (k := 9) (show xm_Imp g Γ 185 (xi_get 4 9 188) from xs_get hG hΓ (ci := 4) (kf := 9) rfl (Nat.le_of_ble_eq_true rfl) q2859 dX5_steps_185) (fun _ => rfl) ?_
    refine xw_ild (show xm_Imp g Γ 188 (xi_ild 1 189) from xs_iload_n hΓ dX5_steps_188) rfl ?_
    obtain ⟨j18, e1, e⟩ := xo_b_s e
    refine xw_mial (k := 9) (v := (v17.2 9 j18)) (show xm_Imp g Γ 189 (xi_ial 190) from xs_ial hG hΓ dX5_steps_189) hM (by decide) rfl e1 rfl ?_
    refine xw_ald (show xm_Imp g Γ 190 (xi_ald 0 191) from xs_aload_n hΓ dX5_steps_190) rfl ?_
    refine xw_mga (k := 10) (show xm_Imp g Γ 191 (xi_get 4 10 194) from xs_get hG hΓ (ci := 4) (kf := 10) rfl (Nat.le_of_ble_eq_true rfl) q2860 dX5_steps_191) (fun _ => rfl) ?_
    refine xw_ild (show xm_Imp g Γ 194 (xi_ild 1 195) from xs_iload_n hΓ dX5_steps_194) rfl ?_
    obtain ⟨j19, e1, e⟩ := xo_b_s e
    refine xw_mial (k := 10) (v := (v17.2 10 j19)) (show xm_Imp g Γ 195 (xi_ial 196) from xs_ial hG hΓ dX5_steps_195) hM (by decide) rfl e1 rfl ?_
    refine xw_ald (show xm_Imp g Γ 196 (xi_ald 0 197) from xs_aload_n hΓ dX5_steps_196) rfl ?_
    refine xw_mga (k := 11) (show xm_Imp g Γ 197 (xi_get 4 11 200) from xs_get hG hΓ (ci := 4) (kf := 11) rfl (Nat.le_of_ble_eq_true rfl) q2861 dX5_steps_197) (fun _ => rfl) ?_
    refine xw_ild (show xm_Imp g Γ 200 (xi_ild 1 201) from xs_iload_n hΓ dX5_steps_200) rfl ?_
    obtain ⟨j20, e1, e⟩ := xo_b_s e
    refine xw_mial (k := 11) (v := (v17.2 11 j20)) (show xm_Imp g Γ 201 (xi_ial 202) from xs_ial hG hΓ dX5_steps_201) hM (by decide) rfl e1 rfl ?_
    obtain ⟨v21, e1, e⟩ := xo_b_s e
    refine xw_mu3 (show xm_Imp g Γ 202 (xi_vir g 4 M_X5_trails 1 3 205) from xs_invV hG hΓ k_X5_trails rfl (ci := 4) rfl q3048 q3050 qs57 dX5_steps_202) rfl (fun Q X hQ => K_X5_trails hG hM hB (v17.2 9 j18) (v17.2 10 j19) (v17.2 11 j20) v17 e1 hQ) ?_
    refine xw_psh (v := (.int (1))) (show xm_Imp g Γ 205 (xi_psh (.int (1)) 206) from xs_iconst hΓ dX5_steps_205 (by decide)) ?_
    exact xw_iret (show xm_Imp g Γ 206 (xi_iret .int _) from xs_ireturn hΓ rfl dX5_steps_206) (xn_int _) (hP0 _ (xl_fin e hp))
  unfold F_X5_steps at e
  refine xw_ald (show xm_Imp g Γ 0 (xi_ald 0 1) from xs_aload_n hΓ dX5_steps_0) rfl ?_
  refine xw_mga (k := 1) (show xm_Imp g Γ 1 (xi_get 4 1 4) from xs_get hG hΓ (ci := 4) (kf := 1) rfl (Nat.le_of_ble_eq_true rfl) q2851 dX5_steps_1) (fun _ => rfl) ?_
  refine xw_psh (v := (.int (2))) (show xm_Imp g Γ 4 (xi_psh (.int (2)) 5) from xs_iconst hΓ dX5_steps_4 (by decide)) ?_
  refine xw_mial (k := 1) (j := 2) (v := (σ.2 1 2)) (show xm_Imp g Γ 5 (xi_ial 6) from xs_ial hG hΓ dX5_steps_5) hM (by decide) rfl rfl rfl ?_
  refine xw_ist (ls' := [some (.ref m), some (.int (σ.2 1 2)), none]) (show xm_Imp g Γ 6 (xi_ist 1 7) from xs_istore_n hΓ dX5_steps_6 (Nat.le_of_ble_eq_true rfl)) rfl ?_
  refine xw_ild (show xm_Imp g Γ 7 (xi_ild 1 8) from xs_iload_n hΓ dX5_steps_7) rfl ?_
  refine xw_ald (show xm_Imp g Γ 8 (xi_ald 0 9) from xs_aload_n hΓ dX5_steps_8) rfl ?_
  refine xw_mgi (v := (σ.1 18)) (show xm_Imp g Γ 9 (xi_get 4 18 12) from xs_get hG hΓ (ci := 4) (kf := 18) rfl (Nat.le_of_ble_eq_true rfl) q2868 dX5_steps_9) (fun _ => rfl) rfl ?_
  refine xw_ic (show xm_Imp g Γ 12 (xi_ic (fun x y => x = y) 15 17) from xs_icmp_ne hΓ dX5_steps_12 (by decide)) (fun c => ?_) (fun c => ?_)
  · rw [if_pos c] at e
    refine xw_psh (v := (.int (-1))) (show xm_Imp g Γ 15 (xi_psh (.int (-1)) 16) from xs_iconst hΓ dX5_steps_15 (by decide)) ?_
    exact xw_iret (show xm_Imp g Γ 16 (xi_iret .int _) from xs_ireturn hΓ rfl dX5_steps_16) (xn_int _) (hP0 _ (xl_fin e hp))
  · rw [if_neg c] at e
    refine xw_ald (show xm_Imp g Γ 17 (xi_ald 0 18) from xs_aload_n hΓ dX5_steps_17) rfl ?_
    refine xw_mga (k := 9) (show xm_Imp g Γ 18 (xi_get 4 9 21) from xs_get hG hΓ (ci := 4) (kf := 9) rfl (Nat.le_of_ble_eq_true rfl) q2859 dX5_steps_18) (fun _ => rfl) ?_
    refine xw_ild (show xm_Imp g Γ 21 (xi_ild 1 22) from xs_iload_n hΓ dX5_steps_21) rfl ?_
    obtain ⟨j1, e1, e⟩ := xo_b_s e
    refine xw_mial (k := 9) (v := (σ.2 9 j1)) (show xm_Imp g Γ 22 (xi_ial 23) from xs_ial hG hΓ dX5_steps_22) hM (by decide) rfl e1 rfl ?_
    refine xw_psh (v := (.int (9))) (show xm_Imp g Γ 23 (xi_psh (.int (9)) 25) from xs_bipush hΓ dX5_steps_23 (by decide)) ?_
    refine xw_ic (show xm_Imp g Γ 25 (xi_ic (fun x y => x = y) 28 121) from xs_icmp_ne hΓ dX5_steps_25 (by decide)) (fun c => ?_) (fun c => ?_)
    · rw [if_pos c] at e
      refine xw_ald (show xm_Imp g Γ 28 (xi_ald 0 29) from xs_aload_n hΓ dX5_steps_28) rfl ?_
      refine xw_mga (k := 15) (show xm_Imp g Γ 29 (xi_get 4 15 32) from xs_get hG hΓ (ci := 4) (kf := 15) rfl (Nat.le_of_ble_eq_true rfl) q2865 dX5_steps_29) (fun _ => rfl) ?_
      refine xw_ild (show xm_Imp g Γ 32 (xi_ild 1 33) from xs_iload_n hΓ dX5_steps_32) rfl ?_
      obtain ⟨j2, e1, e⟩ := xo_b_s e
      refine xw_mial (k := 15) (v := (σ.2 15 j2)) (show xm_Imp g Γ 33 (xi_ial 34) from xs_ial hG hΓ dX5_steps_33) hM (by decide) rfl e1 rfl ?_
      refine xw_psh (v := (.int (1))) (show xm_Imp g Γ 34 (xi_psh (.int (1)) 35) from xs_iconst hΓ dX5_steps_34 (by decide)) ?_
      refine xw_ic (show xm_Imp g Γ 35 (xi_ic (fun x y => x = y) 38 42) from xs_icmp_ne hΓ dX5_steps_35 (by decide)) (fun c => ?_) (fun c => ?_)
      · rw [if_pos c] at e
        refine xw_psh (v := (.int (0))) (show xm_Imp g Γ 38 (xi_psh (.int (0)) 39) from xs_iconst hΓ dX5_steps_38 (by decide)) ?_
        refine xw_goto (show xm_Imp g Γ 39 (xi_goto 43) from xs_goto hΓ dX5_steps_39 (by decide)) ?_
        exact hB_43 _ _ _ _ e hp
      · rw [if_neg c] at e
        refine xw_psh (v := (.int (1))) (show xm_Imp g Γ 42 (xi_psh (.int (1)) 43) from xs_iconst hΓ dX5_steps_42 (by decide)) ?_
        exact hB_43 _ _ _ _ e hp
    · rw [if_neg c] at e
      refine xw_ald (show xm_Imp g Γ 121 (xi_ald 0 122) from xs_aload_n hΓ dX5_steps_121) rfl ?_
      refine xw_mga (k := 1) (show xm_Imp g Γ 122 (xi_get 4 1 125) from xs_get hG hΓ (ci := 4) (kf := 1) rfl (Nat.le_of_ble_eq_true rfl) q2851 dX5_steps_122) (fun _ => rfl) ?_
      refine xw_psh (v := (.int (2))) (show xm_Imp g Γ 125 (xi_psh (.int (2)) 126) from xs_iconst hΓ dX5_steps_125 (by decide)) ?_
      refine xw_ild (show xm_Imp g Γ 126 (xi_ild 1 127) from xs_iload_n hΓ dX5_steps_126) rfl ?_
      refine xw_psh (v := (.int (1))) (show xm_Imp g Γ 127 (xi_psh (.int (1)) 128) from xs_iconst hΓ dX5_steps_127 (by decide)) ?_
      refine xw_ii (show xm_Imp g Γ 128 (xi_ii (fun x y => x + y) 129) from xs_iadd hΓ dX5_steps_128) ?_
      refine xw_mias (k := 1) (j := 2) (show xm_Imp g Γ 129 (xi_ias 130) from xs_ias hG hΓ dX5_steps_129) hM (by decide) rfl rfl ?_
      refine xw_ald (show xm_Imp g Γ 130 (xi_ald 0 131) from xs_aload_n hΓ dX5_steps_130) rfl ?_
      refine xw_mga (k := 12) (show xm_Imp g Γ 131 (xi_get 4 12 134) from xs_get hG hΓ (ci := 4) (kf := 12) rfl (Nat.le_of_ble_eq_true rfl) q2862 dX5_steps_131) (fun _ => rfl) ?_
      refine xw_ild (show xm_Imp g Γ 134 (xi_ild 1 135) from xs_iload_n hΓ dX5_steps_134) rfl ?_
      obtain ⟨j13, e1, e⟩ := xo_b_s e
      refine xw_mial (k := 12) (v := (σ.2 12 j13)) (show xm_Imp g Γ 135 (xi_ial 136) from xs_ial hG hΓ dX5_steps_135) hM (by decide) rfl e1 rfl ?_
      refine xw_psh (v := (.int (-1))) (show xm_Imp g Γ 136 (xi_psh (.int (-1)) 137) from xs_iconst hΓ dX5_steps_136 (by decide)) ?_
      refine xw_ic (show xm_Imp g Γ 137 (xi_ic (fun x y => x = y) 161 140) from xs_icmp_eq hΓ dX5_steps_137 (by decide)) (fun c => ?_) (fun c => ?_)
      · rw [if_pos c] at e
        exact hB_161 _ _ _ e hp
      · rw [if_neg c] at e
        refine xw_ald (show xm_Imp g Γ 140 (xi_ald 0 141) from xs_aload_n hΓ dX5_steps_140) rfl ?_
        refine xw_mga (k := 1) (show xm_Imp g Γ 141 (xi_get 4 1 144) from xs_get hG hΓ (ci := 4) (kf := 1) rfl (Nat.le_of_ble_eq_true rfl) q2851 dX5_steps_141) (fun _ => rfl) ?_
        refine xw_psh (v := (.int (470))) (show xm_Imp g Γ 144 (xi_psh (.int (470)) 147) from xs_sipush hΓ dX5_steps_144 (by decide)) ?_
        refine xw_ald (show xm_Imp g Γ 147 (xi_ald 0 148) from xs_aload_n hΓ dX5_steps_147) rfl ?_
        refine xw_mga (k := 12) (show xm_Imp g Γ 148 (xi_get 4 12 151) from xs_get hG hΓ (ci := 4) (kf := 12) rfl (Nat.le_of_ble_eq_true rfl) q2862 dX5_steps_148) (fun _ => rfl) ?_
        refine xw_ild (show xm_Imp g Γ 151 (xi_ild 1 152) from xs_iload_n hΓ dX5_steps_151) rfl ?_
        obtain ⟨j22, e1, e⟩ := xo_b_s e
        refine xw_mial (k := 12) (v := (σ.2 12 j22)) (show xm_Imp g Γ 152 (xi_ial 153) from xs_ial hG hΓ dX5_steps_152) hM (by decide) rfl e1 rfl ?_
        refine xw_ii (show xm_Imp g Γ 153 (xi_ii (fun x y => x + y) 154) from xs_iadd hΓ dX5_steps_153) ?_
        obtain ⟨j23, e1, e⟩ := xo_b_s e
        refine xw_mial (k := 1) (v := ((xM_a σ 1 2 ((σ.2 1 2) + 1)).2 1 j23)) (show xm_Imp g Γ 154 (xi_ial 155) from xs_ial hG hΓ dX5_steps_154) hM (by decide) rfl e1 rfl ?_
        refine xw_psh (v := (.int (1))) (show xm_Imp g Γ 155 (xi_psh (.int (1)) 156) from xs_iconst hΓ dX5_steps_155 (by decide)) ?_
        refine xw_ic (show xm_Imp g Γ 156 (xi_ic (fun x y => x = y) 159 161) from xs_icmp_ne hΓ dX5_steps_156 (by decide)) (fun c => ?_) (fun c => ?_)
        · rw [if_pos c] at e
          refine xw_psh (v := (.int (0))) (show xm_Imp g Γ 159 (xi_psh (.int (0)) 160) from xs_iconst hΓ dX5_steps_159 (by decide)) ?_
          exact xw_iret (show xm_Imp g Γ 160 (xi_iret .int _) from xs_ireturn hΓ rfl dX5_steps_160) (xn_int _) (hP0 _ (xl_fin e hp))
        · rw [if_neg c] at e
          exact hB_161 _ _ _ e hp
noncomputable def F_X5_step (σ : xM_S) : Option (Int32 × xM_S) :=
 xo_b (F_X5_starts (xM_f σ 0 0)) (fun v1 =>
 xo_b (F_X5_steps v1) (fun v2 =>
 (if v2.1 = (-1) then
 some ((v2.1, v2.2)) else
 xo_b (F_X5_keeps v2.2) (fun v3 =>
 some ((v2.1, v3))))))
set_option maxHeartbeats 4000000 in
theorem K_X5_step {g : xm_G} (hG : xm_Gw g) {h0 : xm_H} {m : Nat} {ad : Nat → Nat} (hM : xM_ok h0 m ad) (hB : xk_B g h0)  (σ : xM_S) {o : Int32 × xM_S} (e : F_X5_step σ = some o) {Q : xm_P} {X : xm_X} (hQ : Q (some (.int o.1)) (xMp h0 m ad o.2)) : xm_Run g M_X5_step 10 [.ref m] (xMp h0 m ad σ) 0 0 Q X := by
  refine xm_Run.of pn_StringTableauModel (Nat.le_of_ble_eq_true rfl) (fun Γ hΓ => ?_)
  obtain ⟨P0, hP0, hp⟩ : ∃ P : Int32 × xM_S → Prop, (∀ o, P o → Q (some (.int o.1)) (xMp h0 m ad o.2)) ∧ P o := ⟨fun o => Q (some (.int o.1)) (xMp h0 m ad o.2), fun _ h => h, hQ⟩
  clear hQ
  show xm_W g Γ 0 [some (.ref m), none] [] (xMp h0 m ad σ) 0 0
  unfold F_X5_step at e
  refine xw_ald (show xm_Imp g Γ 0 (xi_ald 0 1) from xs_aload_n hΓ dX5_step_0) rfl ?_
  refine xw_psh (v := (.int (0))) (show xm_Imp g Γ 1 (xi_psh (.int (0)) 2) from xs_iconst hΓ dX5_step_1 (by decide)) ?_
  refine xw_mpi (show xm_Imp g Γ 2 (xi_put 4 0 (.int) 5) from xs_put hG hΓ (ci := 4) (kf := 0) rfl (Nat.le_of_ble_eq_true rfl) rfl (by decide +kernel) q2850 dX5_step_2) (fun _ _ => rfl) ⟨rfl, rfl⟩ ?_
  refine xw_ald (show xm_Imp g Γ 5 (xi_ald 0 6) from xs_aload_n hΓ dX5_step_5) rfl ?_
  obtain ⟨v1, e1, e⟩ := xo_b_s e
  refine xw_mu0 (show xm_Imp g Γ 6 (xi_vir g 4 M_X5_starts 2 0 9) from xs_invV hG hΓ k_X5_starts rfl (ci := 4) rfl q3007 q3009 qs49 dX5_step_6) rfl (fun Q X hQ => K_X5_starts hG hM hB (xM_f σ 0 0) e1 hQ) ?_
  refine xw_ald (show xm_Imp g Γ 9 (xi_ald 0 10) from xs_aload_n hΓ dX5_step_9) rfl ?_
  obtain ⟨v2, e1, e⟩ := xo_b_s e
  refine xw_mv0 (show xm_Imp g Γ 10 (xi_vir g 4 M_X5_steps 9 0 13) from xs_invV hG hΓ k_X5_steps rfl (ci := 4) rfl q3135 q3137 qs72 dX5_step_10) rfl (fun Q X hQ => K_X5_steps hG hM hB v1 e1 hQ) ?_
  refine xw_ist (ls' := [some (.ref m), some (.int v2.1)]) (show xm_Imp g Γ 13 (xi_ist 1 14) from xs_istore_n hΓ dX5_step_13 (Nat.le_of_ble_eq_true rfl)) rfl ?_
  refine xw_ild (show xm_Imp g Γ 14 (xi_ild 1 15) from xs_iload_n hΓ dX5_step_14) rfl ?_
  refine xw_psh (v := (.int (-1))) (show xm_Imp g Γ 15 (xi_psh (.int (-1)) 16) from xs_iconst hΓ dX5_step_15 (by decide)) ?_
  refine xw_ic (show xm_Imp g Γ 16 (xi_ic (fun x y => x = y) 23 19) from xs_icmp_eq hΓ dX5_step_16 (by decide)) (fun c => ?_) (fun c => ?_)
  · rw [if_pos c] at e
    refine xw_ild (show xm_Imp g Γ 23 (xi_ild 1 24) from xs_iload_n hΓ dX5_step_23) rfl ?_
    exact xw_iret (show xm_Imp g Γ 24 (xi_iret .int _) from xs_ireturn hΓ rfl dX5_step_24) (xn_int _) (hP0 _ (xl_fin e hp))
  · rw [if_neg c] at e
    refine xw_ald (show xm_Imp g Γ 19 (xi_ald 0 20) from xs_aload_n hΓ dX5_step_19) rfl ?_
    obtain ⟨v3, e1, e⟩ := xo_b_s e
    refine xw_mu0 (show xm_Imp g Γ 20 (xi_vir g 4 M_X5_keeps 1 0 23) from xs_invV hG hΓ k_X5_keeps rfl (ci := 4) rfl q3052 q3054 qs58 dX5_step_20) rfl (fun Q X hQ => K_X5_keeps hG hM hB v2.2 e1 hQ) ?_
    refine xw_ild (show xm_Imp g Γ 23 (xi_ild 1 24) from xs_iload_n hΓ dX5_step_23) rfl ?_
    exact xw_iret (show xm_Imp g Γ 24 (xi_iret .int _) from xs_ireturn hΓ rfl dX5_step_24) (xn_int _) (hP0 _ (xl_fin e hp))
noncomputable def D_X5_runs_2 (l1 : Int32) (s : Int32 × xM_S) : Option ((Int32 × xM_S) ⊕ (Int32 × xM_S)) :=
 (if l1 ≤ s.1 then
 xl_o (some ((s.1, s.2))) else
 xo_b (F_X5_steps s.2) (fun v1 =>
 (if v1.1 = (-1) then
 xl_o (some ((s.1, v1.2))) else
 some (Sum.inl (s.1 + 1, v1.2)))))
noncomputable def L_X5_runs_2 (l1 : Int32) (s : Int32 × xM_S) : Option (Int32 × xM_S) := xl_loop (D_X5_runs_2 l1) s
noncomputable def F_X5_runs (p1 : Int32) (σ : xM_S) : Option (Int32 × xM_S) :=
 L_X5_runs_2 p1 (0, σ)
set_option maxHeartbeats 4000000 in
theorem K_X5_runs {g : xm_G} (hG : xm_Gw g) {h0 : xm_H} {m : Nat} {ad : Nat → Nat} (hM : xM_ok h0 m ad) (hB : xk_B g h0) (p1 : Int32) (σ : xM_S) {o : Int32 × xM_S} (e : F_X5_runs p1 σ = some o) {Q : xm_P} {X : xm_X} (hQ : Q (some (.int o.1)) (xMp h0 m ad o.2)) : xm_Run g M_X5_runs 10 [.ref m, .int p1] (xMp h0 m ad σ) 0 0 Q X := by
  refine xm_Run.of pn_StringTableauModel (Nat.le_of_ble_eq_true rfl) (fun Γ hΓ => ?_)
  obtain ⟨P0, hP0, hp⟩ : ∃ P : Int32 × xM_S → Prop, (∀ o, P o → Q (some (.int o.1)) (xMp h0 m ad o.2)) ∧ P o := ⟨fun o => Q (some (.int o.1)) (xMp h0 m ad o.2), fun _ h => h, hQ⟩
  clear hQ
  show xm_W g Γ 0 [some (.ref m), some (.int p1), none] [] (xMp h0 m ad σ) 0 0
  have hL_2 : ∀ (l1 : Int32) (s : Int32 × xM_S) (o : Int32 × xM_S), L_X5_runs_2 l1 s = some o → P0 o → xm_W g Γ 2 [some (.ref m), some (.int l1), some (.int s.1)] [] (xMp h0 m ad s.2) 0 0 := by
    intro l1
    refine xl_rule (WS := fun s : Int32 × xM_S => xm_W g Γ 2 [some (.ref m), some (.int l1), some (.int s.1)] [] (xMp h0 m ad s.2) 0 0) ?_
    intro s o e hp
    obtain ⟨P1, hP1, hp⟩ : ∃ P : (Int32 × xM_S) ⊕ (Int32 × xM_S) → Prop, (∀ o, P o → xl_P (fun s : Int32 × xM_S => xm_W g Γ 2 [some (.ref m), some (.int l1), some (.int s.1)] [] (xMp h0 m ad s.2) 0 0) P0 o) ∧ P o := ⟨_, fun _ h => h, hp⟩
    unfold D_X5_runs_2 at e
    refine xw_ild (show xm_Imp g Γ 2 (xi_ild 2 3) from xs_iload_n hΓ dX5_runs_2) rfl ?_
    refine xw_ild (show xm_Imp g Γ 3 (xi_ild 1 4) from xs_iload_n hΓ dX5_runs_3) rfl ?_
    refine xw_ic (show xm_Imp g Γ 4 (xi_ic (fun x y => y ≤ x) 22 7) from xs_icmp_ge hΓ dX5_runs_4 (by decide)) (fun c => ?_) (fun c => ?_)
    · rw [if_pos c] at e
      obtain ⟨_, e, hp⟩ := xl_o_s e (hP1 _ hp)
      refine xw_ild (show xm_Imp g Γ 22 (xi_ild 2 23) from xs_iload_n hΓ dX5_runs_22) rfl ?_
      exact xw_iret (show xm_Imp g Γ 23 (xi_iret .int _) from xs_ireturn hΓ rfl dX5_runs_23) (xn_int _) (hP0 _ (xl_fin e hp))
    · rw [if_neg c] at e
      refine xw_ald (show xm_Imp g Γ 7 (xi_ald 0 8) from xs_aload_n hΓ dX5_runs_7) rfl ?_
      obtain ⟨v1, e1, e⟩ := xo_b_s e
      refine xw_mv0 (show xm_Imp g Γ 8 (xi_vir g 4 M_X5_steps 9 0 11) from xs_invV hG hΓ k_X5_steps rfl (ci := 4) rfl q3135 q3137 qs72 dX5_runs_8) rfl (fun Q X hQ => K_X5_steps hG hM hB s.2 e1 hQ) ?_
      refine xw_psh (v := (.int (-1))) (show xm_Imp g Γ 11 (xi_psh (.int (-1)) 12) from xs_iconst hΓ dX5_runs_11 (by decide)) ?_
      refine xw_ic (show xm_Imp g Γ 12 (xi_ic (fun x y => x = y) 22 15) from xs_icmp_eq hΓ dX5_runs_12 (by decide)) (fun c => ?_) (fun c => ?_)
      · rw [if_pos c] at e
        obtain ⟨_, e, hp⟩ := xl_o_s e (hP1 _ hp)
        refine xw_ild (show xm_Imp g Γ 22 (xi_ild 2 23) from xs_iload_n hΓ dX5_runs_22) rfl ?_
        exact xw_iret (show xm_Imp g Γ 23 (xi_iret .int _) from xs_ireturn hΓ rfl dX5_runs_23) (xn_int _) (hP0 _ (xl_fin e hp))
      · rw [if_neg c] at e
        refine xw_ild (show xm_Imp g Γ 15 (xi_ild 2 16) from xs_iload_n hΓ dX5_runs_15) rfl ?_
        refine xw_psh (v := (.int (1))) (show xm_Imp g Γ 16 (xi_psh (.int (1)) 17) from xs_iconst hΓ dX5_runs_16 (by decide)) ?_
        refine xw_ii (show xm_Imp g Γ 17 (xi_ii (fun x y => x + y) 18) from xs_iadd hΓ dX5_runs_17) ?_
        refine xw_ist (ls' := [some (.ref m), some (.int l1), some (.int (s.1 + 1))]) (show xm_Imp g Γ 18 (xi_ist 2 19) from xs_istore_n hΓ dX5_runs_18 (Nat.le_of_ble_eq_true rfl)) rfl ?_
        refine xw_goto (show xm_Imp g Γ 19 (xi_goto 2) from xs_goto hΓ dX5_runs_19 (by decide)) ?_
        have hq := xl_P_inl (hP1 _ (xl_fin e hp)); exact hq
  unfold F_X5_runs at e
  refine xw_psh (v := (.int (0))) (show xm_Imp g Γ 0 (xi_psh (.int (0)) 1) from xs_iconst hΓ dX5_runs_0 (by decide)) ?_
  refine xw_ist (ls' := [some (.ref m), some (.int p1), some (.int 0)]) (show xm_Imp g Γ 1 (xi_ist 2 2) from xs_istore_n hΓ dX5_runs_1 (Nat.le_of_ble_eq_true rfl)) rfl ?_
  exact hL_2 _ _ _ e hp
noncomputable def F_X5_run (p1 : Int32) (σ : xM_S) : Option (Int32 × xM_S) :=
 xo_b (F_X5_is (F_X5_isIn p1.toInt64 1 60) σ) (fun v1 =>
 (if v1.1 = 0 then
 some ((0, v1.2)) else
 xo_b (F_X5_starts v1.2) (fun v2 =>
 xo_b (F_X5_runs p1 v2) (fun v3 =>
 (if v3.1 ≤ 0 then
 some ((v3.1, v3.2)) else
 xo_b (F_X5_keeps v3.2) (fun v4 =>
 some ((v3.1, v4))))))))
set_option maxHeartbeats 4000000 in
theorem K_X5_run {g : xm_G} (hG : xm_Gw g) {h0 : xm_H} {m : Nat} {ad : Nat → Nat} (hM : xM_ok h0 m ad) (hB : xk_B g h0) (p1 : Int32) (σ : xM_S) {o : Int32 × xM_S} (e : F_X5_run p1 σ = some o) {Q : xm_P} {X : xm_X} (hQ : Q (some (.int o.1)) (xMp h0 m ad o.2)) : xm_Run g M_X5_run 11 [.ref m, .int p1] (xMp h0 m ad σ) 0 0 Q X := by
  refine xm_Run.of pn_StringTableauModel (Nat.le_of_ble_eq_true rfl) (fun Γ hΓ => ?_)
  obtain ⟨P0, hP0, hp⟩ : ∃ P : Int32 × xM_S → Prop, (∀ o, P o → Q (some (.int o.1)) (xMp h0 m ad o.2)) ∧ P o := ⟨fun o => Q (some (.int o.1)) (xMp h0 m ad o.2), fun _ h => h, hQ⟩
  clear hQ
  show xm_W g Γ 0 [some (.ref m), some (.int p1), none] [] (xMp h0 m ad σ) 0 0
  unfold F_X5_run at e
  refine xw_ald (show xm_Imp g Γ 0 (xi_ald 0 1) from xs_aload_n hΓ dX5_run_0) rfl ?_
  refine xw_ild (show xm_Imp g Γ 1 (xi_ild 1 2) from xs_iload_n hΓ dX5_run_1) rfl ?_
  refine xw_i2l (show xm_Imp g Γ 2 (xi_i2l 3) from xs_i2l hΓ dX5_run_2) ?_
  refine xw_psh (v := (.long 1)) (show xm_Imp g Γ 3 (xi_psh (.long 1) 4) from xs_lconst hΓ dX5_run_3 (by decide)) ?_
  refine xw_psh (v := (.long (60))) (show xm_Imp g Γ 4 (xi_psh (.long (60)) 7) from xs_ldc2 hG hΓ q3143 dX5_run_4) ?_
  refine xw_sv3 (show xm_Imp g Γ 7 (xi_inv g M_X5_isIn 1 3 10) from xs_invS hG hΓ k_X5_isIn rfl q2996 q2997 dX5_run_7) rfl (fun Q X hQ => K_X5_isIn hG p1.toInt64 1 60 rfl hQ) ?_
  obtain ⟨v1, e1, e⟩ := xo_b_s e
  refine xw_mv1 (show xm_Imp g Γ 10 (xi_vir g 4 M_X5_is 1 1 13) from xs_invV hG hΓ k_X5_is rfl (ci := 4) rfl q2986 q2988 qs46 dX5_run_10) rfl (fun Q X hQ => K_X5_is hG hM hB (F_X5_isIn p1.toInt64 1 60) σ e1 hQ) ?_
  refine xw_if (show xm_Imp g Γ 13 (xi_if (fun x => x = 0) 16 18) from xs_if_ne hΓ dX5_run_13 (by decide)) (fun c => ?_) (fun c => ?_)
  · rw [if_pos c] at e
    refine xw_psh (v := (.int (0))) (show xm_Imp g Γ 16 (xi_psh (.int (0)) 17) from xs_iconst hΓ dX5_run_16 (by decide)) ?_
    exact xw_iret (show xm_Imp g Γ 17 (xi_iret .int _) from xs_ireturn hΓ rfl dX5_run_17) (xn_int _) (hP0 _ (xl_fin e hp))
  · rw [if_neg c] at e
    refine xw_ald (show xm_Imp g Γ 18 (xi_ald 0 19) from xs_aload_n hΓ dX5_run_18) rfl ?_
    obtain ⟨v2, e1, e⟩ := xo_b_s e
    refine xw_mu0 (show xm_Imp g Γ 19 (xi_vir g 4 M_X5_starts 2 0 22) from xs_invV hG hΓ k_X5_starts rfl (ci := 4) rfl q3007 q3009 qs49 dX5_run_19) rfl (fun Q X hQ => K_X5_starts hG hM hB v1.2 e1 hQ) ?_
    refine xw_ald (show xm_Imp g Γ 22 (xi_ald 0 23) from xs_aload_n hΓ dX5_run_22) rfl ?_
    refine xw_ild (show xm_Imp g Γ 23 (xi_ild 1 24) from xs_iload_n hΓ dX5_run_23) rfl ?_
    obtain ⟨v3, e1, e⟩ := xo_b_s e
    refine xw_mv1 (show xm_Imp g Γ 24 (xi_vir g 4 M_X5_runs 10 1 27) from xs_invV hG hΓ k_X5_runs rfl (ci := 4) rfl q3144 q3146 qs73 dX5_run_24) rfl (fun Q X hQ => K_X5_runs hG hM hB p1 v2 e1 hQ) ?_
    refine xw_ist (ls' := [some (.ref m), some (.int p1), some (.int v3.1)]) (show xm_Imp g Γ 27 (xi_ist 2 28) from xs_istore_n hΓ dX5_run_27 (Nat.le_of_ble_eq_true rfl)) rfl ?_
    refine xw_ild (show xm_Imp g Γ 28 (xi_ild 2 29) from xs_iload_n hΓ dX5_run_28) rfl ?_
    refine xw_if (show xm_Imp g Γ 29 (xi_if (fun x => x ≤ 0) 36 32) from xs_if_le hΓ dX5_run_29 (by decide)) (fun c => ?_) (fun c => ?_)
    · rw [if_pos c] at e
      refine xw_ild (show xm_Imp g Γ 36 (xi_ild 2 37) from xs_iload_n hΓ dX5_run_36) rfl ?_
      exact xw_iret (show xm_Imp g Γ 37 (xi_iret .int _) from xs_ireturn hΓ rfl dX5_run_37) (xn_int _) (hP0 _ (xl_fin e hp))
    · rw [if_neg c] at e
      refine xw_ald (show xm_Imp g Γ 32 (xi_ald 0 33) from xs_aload_n hΓ dX5_run_32) rfl ?_
      obtain ⟨v4, e1, e⟩ := xo_b_s e
      refine xw_mu0 (show xm_Imp g Γ 33 (xi_vir g 4 M_X5_keeps 1 0 36) from xs_invV hG hΓ k_X5_keeps rfl (ci := 4) rfl q3052 q3054 qs58 dX5_run_33) rfl (fun Q X hQ => K_X5_keeps hG hM hB v3.2 e1 hQ) ?_
      refine xw_ild (show xm_Imp g Γ 36 (xi_ild 2 37) from xs_iload_n hΓ dX5_run_36) rfl ?_
      exact xw_iret (show xm_Imp g Γ 37 (xi_iret .int _) from xs_ireturn hΓ rfl dX5_run_37) (xn_int _) (hP0 _ (xl_fin e hp))
noncomputable def F_X5_runnable (σ : xM_S) : Option (Int32 × xM_S) :=
 xo_b (F_X5_copies 1 3 (xM_f σ 0 0)) (fun v1 =>
 xo_b (F_X5_runs 60 v1) (fun v2 =>
 xo_b (F_X5_copies 3 1 v2.2) (fun v3 =>
 some ((v2.1, v3)))))
set_option maxHeartbeats 4000000 in
theorem K_X5_runnable {g : xm_G} (hG : xm_Gw g) {h0 : xm_H} {m : Nat} {ad : Nat → Nat} (hM : xM_ok h0 m ad) (hB : xk_B g h0)  (σ : xM_S) {o : Int32 × xM_S} (e : F_X5_runnable σ = some o) {Q : xm_P} {X : xm_X} (hQ : Q (some (.int o.1)) (xMp h0 m ad o.2)) : xm_Run g M_X5_runnable 11 [.ref m] (xMp h0 m ad σ) 0 0 Q X := by
  refine xm_Run.of pn_StringTableauModel (Nat.le_of_ble_eq_true rfl) (fun Γ hΓ => ?_)
  obtain ⟨P0, hP0, hp⟩ : ∃ P : Int32 × xM_S → Prop, (∀ o, P o → Q (some (.int o.1)) (xMp h0 m ad o.2)) ∧ P o := ⟨fun o => Q (some (.int o.1)) (xMp h0 m ad o.2), fun _ h => h, hQ⟩
  clear hQ
  show xm_W g Γ 0 [some (.ref m), none] [] (xMp h0 m ad σ) 0 0
  unfold F_X5_runnable at e
  refine xw_ald (show xm_Imp g Γ 0 (xi_ald 0 1) from xs_aload_n hΓ dX5_runnable_0) rfl ?_
  refine xw_psh (v := (.int (0))) (show xm_Imp g Γ 1 (xi_psh (.int (0)) 2) from xs_iconst hΓ dX5_runnable_1 (by decide)) ?_
  refine xw_mpi (show xm_Imp g Γ 2 (xi_put 4 0 (.int) 5) from xs_put hG hΓ (ci := 4) (kf := 0) rfl (Nat.le_of_ble_eq_true rfl) rfl (by decide +kernel) q2850 dX5_runnable_2) (fun _ _ => rfl) ⟨rfl, rfl⟩ ?_
  refine xw_ald (show xm_Imp g Γ 5 (xi_ald 0 6) from xs_aload_n hΓ dX5_runnable_5) rfl ?_
  refine xw_mga (k := 1) (show xm_Imp g Γ 6 (xi_get 4 1 9) from xs_get hG hΓ (ci := 4) (kf := 1) rfl (Nat.le_of_ble_eq_true rfl) q2851 dX5_runnable_6) (fun _ => rfl) ?_
  refine xw_ald (show xm_Imp g Γ 9 (xi_ald 0 10) from xs_aload_n hΓ dX5_runnable_9) rfl ?_
  refine xw_mga (k := 3) (show xm_Imp g Γ 10 (xi_get 4 3 13) from xs_get hG hΓ (ci := 4) (kf := 3) rfl (Nat.le_of_ble_eq_true rfl) q2853 dX5_runnable_10) (fun _ => rfl) ?_
  obtain ⟨v1, e1, e⟩ := xo_b_s e
  refine xw_su2 (show xm_Imp g Γ 13 (xi_inv g M_X5_copies 1 2 16) from xs_invS hG hΓ k_X5_copies rfl q3011 q3012 dX5_runnable_13) rfl (fun Q X hQ => K_X5_copies hG hM hB 1 3 (by decide) (by decide) (xM_f σ 0 0) e1 hQ) ?_
  refine xw_ald (show xm_Imp g Γ 16 (xi_ald 0 17) from xs_aload_n hΓ dX5_runnable_16) rfl ?_
  refine xw_psh (v := (.int (60))) (show xm_Imp g Γ 17 (xi_psh (.int (60)) 19) from xs_bipush hΓ dX5_runnable_17 (by decide)) ?_
  obtain ⟨v2, e1, e⟩ := xo_b_s e
  refine xw_mv1 (show xm_Imp g Γ 19 (xi_vir g 4 M_X5_runs 10 1 22) from xs_invV hG hΓ k_X5_runs rfl (ci := 4) rfl q3144 q3146 qs73 dX5_runnable_19) rfl (fun Q X hQ => K_X5_runs hG hM hB 60 v1 e1 hQ) ?_
  refine xw_ist (ls' := [some (.ref m), some (.int v2.1)]) (show xm_Imp g Γ 22 (xi_ist 1 23) from xs_istore_n hΓ dX5_runnable_22 (Nat.le_of_ble_eq_true rfl)) rfl ?_
  refine xw_ald (show xm_Imp g Γ 23 (xi_ald 0 24) from xs_aload_n hΓ dX5_runnable_23) rfl ?_
  refine xw_mga (k := 3) (show xm_Imp g Γ 24 (xi_get 4 3 27) from xs_get hG hΓ (ci := 4) (kf := 3) rfl (Nat.le_of_ble_eq_true rfl) q2853 dX5_runnable_24) (fun _ => rfl) ?_
  refine xw_ald (show xm_Imp g Γ 27 (xi_ald 0 28) from xs_aload_n hΓ dX5_runnable_27) rfl ?_
  refine xw_mga (k := 1) (show xm_Imp g Γ 28 (xi_get 4 1 31) from xs_get hG hΓ (ci := 4) (kf := 1) rfl (Nat.le_of_ble_eq_true rfl) q2851 dX5_runnable_28) (fun _ => rfl) ?_
  obtain ⟨v3, e1, e⟩ := xo_b_s e
  refine xw_su2 (show xm_Imp g Γ 31 (xi_inv g M_X5_copies 1 2 34) from xs_invS hG hΓ k_X5_copies rfl q3011 q3012 dX5_runnable_31) rfl (fun Q X hQ => K_X5_copies hG hM hB 3 1 (by decide) (by decide) v2.2 e1 hQ) ?_
  refine xw_ild (show xm_Imp g Γ 34 (xi_ild 1 35) from xs_iload_n hΓ dX5_runnable_34) rfl ?_
  exact xw_iret (show xm_Imp g Γ 35 (xi_iret .int _) from xs_ireturn hΓ rfl dX5_runnable_35) (xn_int _) (hP0 _ (xl_fin e hp))
noncomputable def D_X5_randoms_4 (σ : xM_S) (s : Int32 × Int32) : Option ((Int32 × Int32) ⊕ (Int32)) :=
 (if (σ.2 1 4) ≤ s.2 then
 xl_o (some (s.1)) else
 xo_b (xa_ix 530 (130 + s.2)) (fun j1 =>
 some (Sum.inl (s.1 + (σ.2 1 j1), s.2 + 1))))
noncomputable def L_X5_randoms_4 (σ : xM_S) (s : Int32 × Int32) : Option (Int32) := xl_loop (D_X5_randoms_4 σ) s
noncomputable def F_X5_randoms (σ : xM_S) : Option (Int32) :=
 L_X5_randoms_4 σ (0, 0)
set_option maxHeartbeats 4000000 in
theorem K_X5_randoms {g : xm_G} (hG : xm_Gw g) {h0 : xm_H} {m : Nat} {ad : Nat → Nat} (hM : xM_ok h0 m ad) (hB : xk_B g h0)  (σ : xM_S) {o : Int32} (e : F_X5_randoms σ = some o) {Q : xm_P} {X : xm_X} (hQ : Q (some (.int o)) (xMp h0 m ad σ)) : xm_Run g M_X5_randoms 1 [.ref m] (xMp h0 m ad σ) 0 0 Q X := by
  refine xm_Run.of pn_StringTableauModel (Nat.le_of_ble_eq_true rfl) (fun Γ hΓ => ?_)
  obtain ⟨P0, hP0, hp⟩ : ∃ P : Int32 → Prop, (∀ o, P o → Q (some (.int o)) (xMp h0 m ad σ)) ∧ P o := ⟨fun o => Q (some (.int o)) (xMp h0 m ad σ), fun _ h => h, hQ⟩
  clear hQ
  show xm_W g Γ 0 [some (.ref m), none, none] [] (xMp h0 m ad σ) 0 0
  have hL_4 : ∀  (s : Int32 × Int32) (o : Int32), L_X5_randoms_4 σ s = some o → P0 o → xm_W g Γ 4 [some (.ref m), some (.int s.1), some (.int s.2)] [] (xMp h0 m ad σ) 0 0 := by
    skip
    refine xl_rule (WS := fun s : Int32 × Int32 => xm_W g Γ 4 [some (.ref m), some (.int s.1), some (.int s.2)] [] (xMp h0 m ad σ) 0 0) ?_
    intro s o e hp
    obtain ⟨P1, hP1, hp⟩ : ∃ P : (Int32 × Int32) ⊕ (Int32) → Prop, (∀ o, P o → xl_P (fun s : Int32 × Int32 => xm_W g Γ 4 [some (.ref m), some (.int s.1), some (.int s.2)] [] (xMp h0 m ad σ) 0 0) P0 o) ∧ P o := ⟨_, fun _ h => h, hp⟩
    unfold D_X5_randoms_4 at e
    refine xw_ild (show xm_Imp g Γ 4 (xi_ild 2 5) from xs_iload_n hΓ dX5_randoms_4) rfl ?_
    refine xw_ald (show xm_Imp g Γ 5 (xi_ald 0 6) from xs_aload_n hΓ dX5_randoms_5) rfl ?_
    refine xw_mga (k := 1) (show xm_Imp g Γ 6 (xi_get 4 1 9) from xs_get hG hΓ (ci := 4) (kf := 1) rfl (Nat.le_of_ble_eq_true rfl) q2851 dX5_randoms_6) (fun _ => rfl) ?_
    refine xw_psh (v := (.int (4))) (show xm_Imp g Γ 9 (xi_psh (.int (4)) 10) from xs_iconst hΓ dX5_randoms_9 (by decide)) ?_
    refine xw_mial (k := 1) (j := 4) (v := (σ.2 1 4)) (show xm_Imp g Γ 10 (xi_ial 11) from xs_ial hG hΓ dX5_randoms_10) hM (by decide) rfl rfl rfl ?_
    refine xw_ic (show xm_Imp g Γ 11 (xi_ic (fun x y => y ≤ x) 33 14) from xs_icmp_ge hΓ dX5_randoms_11 (by decide)) (fun c => ?_) (fun c => ?_)
    · rw [if_pos c] at e
      obtain ⟨_, e, hp⟩ := xl_o_s e (hP1 _ hp)
      refine xw_ild (show xm_Imp g Γ 33 (xi_ild 1 34) from xs_iload_n hΓ dX5_randoms_33) rfl ?_
      exact xw_iret (show xm_Imp g Γ 34 (xi_iret .int _) from xs_ireturn hΓ rfl dX5_randoms_34) (xn_int _) (hP0 _ (xl_fin e hp))
    · rw [if_neg c] at e
      refine xw_ild (show xm_Imp g Γ 14 (xi_ild 1 15) from xs_iload_n hΓ dX5_randoms_14) rfl ?_
      refine xw_ald (show xm_Imp g Γ 15 (xi_ald 0 16) from xs_aload_n hΓ dX5_randoms_15) rfl ?_
      refine xw_mga (k := 1) (show xm_Imp g Γ 16 (xi_get 4 1 19) from xs_get hG hΓ (ci := 4) (kf := 1) rfl (Nat.le_of_ble_eq_true rfl) q2851 dX5_randoms_16) (fun _ => rfl) ?_
      refine xw_psh (v := (.int (130))) (show xm_Imp g Γ 19 (xi_psh (.int (130)) 22) from xs_sipush hΓ dX5_randoms_19 (by decide)) ?_
      refine xw_ild (show xm_Imp g Γ 22 (xi_ild 2 23) from xs_iload_n hΓ dX5_randoms_22) rfl ?_
      refine xw_ii (show xm_Imp g Γ 23 (xi_ii (fun x y => x + y) 24) from xs_iadd hΓ dX5_randoms_23) ?_
      obtain ⟨j1, e1, e⟩ := xo_b_s e
      refine xw_mial (k := 1) (v := (σ.2 1 j1)) (show xm_Imp g Γ 24 (xi_ial 25) from xs_ial hG hΓ dX5_randoms_24) hM (by decide) rfl e1 rfl ?_
      refine xw_ii (show xm_Imp g Γ 25 (xi_ii (fun x y => x + y) 26) from xs_iadd hΓ dX5_randoms_25) ?_
      refine xw_ist (ls' := [some (.ref m), some (.int (s.1 + (σ.2 1 j1))), some (.int s.2)]) (show xm_Imp g Γ 26 (xi_ist 1 27) from xs_istore_n hΓ dX5_randoms_26 (Nat.le_of_ble_eq_true rfl)) rfl ?_
      refine xw_inc (v := (1)) (ls' := [some (.ref m), some (.int (s.1 + (σ.2 1 j1))), some (.int (s.2 + 1))]) (show xm_Imp g Γ 27 (xi_inc 2 (1) 30) from xs_iinc hΓ dX5_randoms_27 (by decide) (Nat.le_of_ble_eq_true rfl)) rfl rfl ?_
      refine xw_goto (show xm_Imp g Γ 30 (xi_goto 4) from xs_goto hΓ dX5_randoms_30 (by decide)) ?_
      have hq := xl_P_inl (hP1 _ (xl_fin e hp)); exact hq
  unfold F_X5_randoms at e
  refine xw_psh (v := (.int (0))) (show xm_Imp g Γ 0 (xi_psh (.int (0)) 1) from xs_iconst hΓ dX5_randoms_0 (by decide)) ?_
  refine xw_ist (ls' := [some (.ref m), some (.int 0), none]) (show xm_Imp g Γ 1 (xi_ist 1 2) from xs_istore_n hΓ dX5_randoms_1 (Nat.le_of_ble_eq_true rfl)) rfl ?_
  refine xw_psh (v := (.int (0))) (show xm_Imp g Γ 2 (xi_psh (.int (0)) 3) from xs_iconst hΓ dX5_randoms_2 (by decide)) ?_
  refine xw_ist (ls' := [some (.ref m), some (.int 0), some (.int 0)]) (show xm_Imp g Γ 3 (xi_ist 2 4) from xs_istore_n hΓ dX5_randoms_3 (Nat.le_of_ble_eq_true rfl)) rfl ?_
  exact hL_4 _ _ e hp
noncomputable def F_X5_count (p1 : Int32) (σ : xM_S) : Option (Int32 × xM_S) :=
 (if p1 = 0 then
 some (((σ.2 1 0), (xM_f σ 0 0))) else
 (if p1 = 1 then
 some (((σ.1 18), (xM_f σ 0 0))) else
 (if p1 = 2 then
 some (((σ.2 1 2), (xM_f σ 0 0))) else
 (if p1 = 3 then
 some (((σ.2 1 4), (xM_f σ 0 0))) else
 (if p1 = 4 then
 xo_b (F_X5_randoms (xM_f σ 0 0)) (fun v1 =>
 some ((v1, (xM_f σ 0 0)))) else
 (if p1 = 5 then
 some (((σ.2 1 3), (xM_f σ 0 0))) else
 (if p1 = 6 then
 some (((σ.2 1 5), (xM_f σ 0 0))) else
 (if p1 = 7 then
 some (((σ.1 5), (xM_f σ 0 0))) else
 some (((-1), (xM_f σ 0 0)))))))))))
set_option maxHeartbeats 4000000 in
theorem K_X5_count {g : xm_G} (hG : xm_Gw g) {h0 : xm_H} {m : Nat} {ad : Nat → Nat} (hM : xM_ok h0 m ad) (hB : xk_B g h0) (p1 : Int32) (σ : xM_S) {o : Int32 × xM_S} (e : F_X5_count p1 σ = some o) {Q : xm_P} {X : xm_X} (hQ : Q (some (.int o.1)) (xMp h0 m ad o.2)) : xm_Run g M_X5_count 2 [.ref m, .int p1] (xMp h0 m ad σ) 0 0 Q X := by
  refine xm_Run.of pn_StringTableauModel (Nat.le_of_ble_eq_true rfl) (fun Γ hΓ => ?_)
  obtain ⟨P0, hP0, hp⟩ : ∃ P : Int32 × xM_S → Prop, (∀ o, P o → Q (some (.int o.1)) (xMp h0 m ad o.2)) ∧ P o := ⟨fun o => Q (some (.int o.1)) (xMp h0 m ad o.2), fun _ h => h, hQ⟩
  clear hQ
  show xm_W g Γ 0 [some (.ref m), some (.int p1)] [] (xMp h0 m ad σ) 0 0
  unfold F_X5_count at e
  refine xw_ald (show xm_Imp g Γ 0 (xi_ald 0 1) from xs_aload_n hΓ dX5_count_0) rfl ?_
  refine xw_psh (v := (.int (0))) (show xm_Imp g Γ 1 (xi_psh (.int (0)) 2) from xs_iconst hΓ dX5_count_1 (by decide)) ?_
  refine xw_mpi (show xm_Imp g Γ 2 (xi_put 4 0 (.int) 5) from xs_put hG hΓ (ci := 4) (kf := 0) rfl (Nat.le_of_ble_eq_true rfl) rfl (by decide +kernel) q2850 dX5_count_2) (fun _ _ => rfl) ⟨rfl, rfl⟩ ?_
  refine xw_ild (show xm_Imp g Γ 5 (xi_ild 1 6) from xs_iload_n hΓ dX5_count_5) rfl ?_
  by_cases c0 : p1 = 0
  · rw [if_pos c0] at e
    refine xw_tsi (show xm_Imp g Γ 6 (xi_tsw 0 6 [48, 55, 60, 67, 74, 79, 86] 93) from xs_tsw hΓ dX5_count_6 (by decide) (by decide) (by decide)) (i := 0) rfl (by rw [c0]; decide) (by decide) ?_
    refine xw_ald (show xm_Imp g Γ 48 (xi_ald 0 49) from xs_aload_n hΓ dX5_count_48) rfl ?_
    refine xw_mga (k := 1) (show xm_Imp g Γ 49 (xi_get 4 1 52) from xs_get hG hΓ (ci := 4) (kf := 1) rfl (Nat.le_of_ble_eq_true rfl) q2851 dX5_count_49) (fun _ => rfl) ?_
    refine xw_psh (v := (.int (0))) (show xm_Imp g Γ 52 (xi_psh (.int (0)) 53) from xs_iconst hΓ dX5_count_52 (by decide)) ?_
    refine xw_mial (k := 1) (j := 0) (v := (σ.2 1 0)) (show xm_Imp g Γ 53 (xi_ial 54) from xs_ial hG hΓ dX5_count_53) hM (by decide) rfl rfl rfl ?_
    exact xw_iret (show xm_Imp g Γ 54 (xi_iret .int _) from xs_ireturn hΓ rfl dX5_count_54) (xn_int _) (hP0 _ (xl_fin e hp))
  rw [if_neg c0] at e
  by_cases c1 : p1 = 1
  · rw [if_pos c1] at e
    refine xw_tsi (show xm_Imp g Γ 6 (xi_tsw 0 6 [48, 55, 60, 67, 74, 79, 86] 93) from xs_tsw hΓ dX5_count_6 (by decide) (by decide) (by decide)) (i := 1) rfl (by rw [c1]; decide) (by decide) ?_
    refine xw_ald (show xm_Imp g Γ 55 (xi_ald 0 56) from xs_aload_n hΓ dX5_count_55) rfl ?_
    refine xw_mgi (v := (σ.1 18)) (show xm_Imp g Γ 56 (xi_get 4 18 59) from xs_get hG hΓ (ci := 4) (kf := 18) rfl (Nat.le_of_ble_eq_true rfl) q2868 dX5_count_56) (fun _ => rfl) rfl ?_
    exact xw_iret (show xm_Imp g Γ 59 (xi_iret .int _) from xs_ireturn hΓ rfl dX5_count_59) (xn_int _) (hP0 _ (xl_fin e hp))
  rw [if_neg c1] at e
  by_cases c2 : p1 = 2
  · rw [if_pos c2] at e
    refine xw_tsi (show xm_Imp g Γ 6 (xi_tsw 0 6 [48, 55, 60, 67, 74, 79, 86] 93) from xs_tsw hΓ dX5_count_6 (by decide) (by decide) (by decide)) (i := 2) rfl (by rw [c2]; decide) (by decide) ?_
    refine xw_ald (show xm_Imp g Γ 60 (xi_ald 0 61) from xs_aload_n hΓ dX5_count_60) rfl ?_
    refine xw_mga (k := 1) (show xm_Imp g Γ 61 (xi_get 4 1 64) from xs_get hG hΓ (ci := 4) (kf := 1) rfl (Nat.le_of_ble_eq_true rfl) q2851 dX5_count_61) (fun _ => rfl) ?_
    refine xw_psh (v := (.int (2))) (show xm_Imp g Γ 64 (xi_psh (.int (2)) 65) from xs_iconst hΓ dX5_count_64 (by decide)) ?_
    refine xw_mial (k := 1) (j := 2) (v := (σ.2 1 2)) (show xm_Imp g Γ 65 (xi_ial 66) from xs_ial hG hΓ dX5_count_65) hM (by decide) rfl rfl rfl ?_
    exact xw_iret (show xm_Imp g Γ 66 (xi_iret .int _) from xs_ireturn hΓ rfl dX5_count_66) (xn_int _) (hP0 _ (xl_fin e hp))
  rw [if_neg c2] at e
  by_cases c3 : p1 = 3
  · rw [if_pos c3] at e
    refine xw_tsi (show xm_Imp g Γ 6 (xi_tsw 0 6 [48, 55, 60, 67, 74, 79, 86] 93) from xs_tsw hΓ dX5_count_6 (by decide) (by decide) (by decide)) (i := 3) rfl (by rw [c3]; decide) (by decide) ?_
    refine xw_ald (show xm_Imp g Γ 67 (xi_ald 0 68) from xs_aload_n hΓ dX5_count_67) rfl ?_
    refine xw_mga (k := 1) (show xm_Imp g Γ 68 (xi_get 4 1 71) from xs_get hG hΓ (ci := 4) (kf := 1) rfl (Nat.le_of_ble_eq_true rfl) q2851 dX5_count_68) (fun _ => rfl) ?_
    refine xw_psh (v := (.int (4))) (show xm_Imp g Γ 71 (xi_psh (.int (4)) 72) from xs_iconst hΓ dX5_count_71 (by decide)) ?_
    refine xw_mial (k := 1) (j := 4) (v := (σ.2 1 4)) (show xm_Imp g Γ 72 (xi_ial 73) from xs_ial hG hΓ dX5_count_72) hM (by decide) rfl rfl rfl ?_
    exact xw_iret (show xm_Imp g Γ 73 (xi_iret .int _) from xs_ireturn hΓ rfl dX5_count_73) (xn_int _) (hP0 _ (xl_fin e hp))
  rw [if_neg c3] at e
  by_cases c4 : p1 = 4
  · rw [if_pos c4] at e
    refine xw_tsi (show xm_Imp g Γ 6 (xi_tsw 0 6 [48, 55, 60, 67, 74, 79, 86] 93) from xs_tsw hΓ dX5_count_6 (by decide) (by decide) (by decide)) (i := 4) rfl (by rw [c4]; decide) (by decide) ?_
    refine xw_ald (show xm_Imp g Γ 74 (xi_ald 0 75) from xs_aload_n hΓ dX5_count_74) rfl ?_
    obtain ⟨v1, e1, e⟩ := xo_b_s e
    refine xw_mv0 (show xm_Imp g Γ 75 (xi_vir g 4 M_X5_randoms 1 0 78) from xs_invV hG hΓ k_X5_randoms rfl (ci := 4) rfl q3156 q3158 qs74 dX5_count_75) rfl (fun Q X hQ => K_X5_randoms hG hM hB (xM_f σ 0 0) e1 hQ) ?_
    exact xw_iret (show xm_Imp g Γ 78 (xi_iret .int _) from xs_ireturn hΓ rfl dX5_count_78) (xn_int _) (hP0 _ (xl_fin e hp))
  rw [if_neg c4] at e
  by_cases c5 : p1 = 5
  · rw [if_pos c5] at e
    refine xw_tsi (show xm_Imp g Γ 6 (xi_tsw 0 6 [48, 55, 60, 67, 74, 79, 86] 93) from xs_tsw hΓ dX5_count_6 (by decide) (by decide) (by decide)) (i := 5) rfl (by rw [c5]; decide) (by decide) ?_
    refine xw_ald (show xm_Imp g Γ 79 (xi_ald 0 80) from xs_aload_n hΓ dX5_count_79) rfl ?_
    refine xw_mga (k := 1) (show xm_Imp g Γ 80 (xi_get 4 1 83) from xs_get hG hΓ (ci := 4) (kf := 1) rfl (Nat.le_of_ble_eq_true rfl) q2851 dX5_count_80) (fun _ => rfl) ?_
    refine xw_psh (v := (.int (3))) (show xm_Imp g Γ 83 (xi_psh (.int (3)) 84) from xs_iconst hΓ dX5_count_83 (by decide)) ?_
    refine xw_mial (k := 1) (j := 3) (v := (σ.2 1 3)) (show xm_Imp g Γ 84 (xi_ial 85) from xs_ial hG hΓ dX5_count_84) hM (by decide) rfl rfl rfl ?_
    exact xw_iret (show xm_Imp g Γ 85 (xi_iret .int _) from xs_ireturn hΓ rfl dX5_count_85) (xn_int _) (hP0 _ (xl_fin e hp))
  rw [if_neg c5] at e
  by_cases c6 : p1 = 6
  · rw [if_pos c6] at e
    refine xw_tsi (show xm_Imp g Γ 6 (xi_tsw 0 6 [48, 55, 60, 67, 74, 79, 86] 93) from xs_tsw hΓ dX5_count_6 (by decide) (by decide) (by decide)) (i := 6) rfl (by rw [c6]; decide) (by decide) ?_
    refine xw_ald (show xm_Imp g Γ 86 (xi_ald 0 87) from xs_aload_n hΓ dX5_count_86) rfl ?_
    refine xw_mga (k := 1) (show xm_Imp g Γ 87 (xi_get 4 1 90) from xs_get hG hΓ (ci := 4) (kf := 1) rfl (Nat.le_of_ble_eq_true rfl) q2851 dX5_count_87) (fun _ => rfl) ?_
    refine xw_psh (v := (.int (5))) (show xm_Imp g Γ 90 (xi_psh (.int (5)) 91) from xs_iconst hΓ dX5_count_90 (by decide)) ?_
    refine xw_mial (k := 1) (j := 5) (v := (σ.2 1 5)) (show xm_Imp g Γ 91 (xi_ial 92) from xs_ial hG hΓ dX5_count_91) hM (by decide) rfl rfl rfl ?_
    exact xw_iret (show xm_Imp g Γ 92 (xi_iret .int _) from xs_ireturn hΓ rfl dX5_count_92) (xn_int _) (hP0 _ (xl_fin e hp))
  rw [if_neg c6] at e
  refine xw_tsd (show xm_Imp g Γ 6 (xi_tsw 0 6 [48, 55, 60, 67, 74, 79, 86] 93) from xs_tsw hΓ dX5_count_6 (by decide) (by decide) (by decide)) (xm_tsd p1 [(0 : Int32), (1 : Int32), (2 : Int32), (3 : Int32), (4 : Int32), (5 : Int32), (6 : Int32)] (by decide) (And.intro c0 (And.intro c1 (And.intro c2 (And.intro c3 (And.intro c4 (And.intro c5 (And.intro c6 (trivial))))))))) (by decide) ?_
  refine xw_ild (show xm_Imp g Γ 93 (xi_ild 1 94) from xs_iload_n hΓ dX5_count_93) rfl ?_
  refine xw_psh (v := (.int (7))) (show xm_Imp g Γ 94 (xi_psh (.int (7)) 96) from xs_bipush hΓ dX5_count_94 (by decide)) ?_
  refine xw_ic (show xm_Imp g Γ 96 (xi_ic (fun x y => x = y) 99 106) from xs_icmp_ne hΓ dX5_count_96 (by decide)) (fun c => ?_) (fun c => ?_)
  · rw [if_pos c] at e
    refine xw_ald (show xm_Imp g Γ 99 (xi_ald 0 100) from xs_aload_n hΓ dX5_count_99) rfl ?_
    refine xw_mgi (v := (σ.1 5)) (show xm_Imp g Γ 100 (xi_get 4 5 103) from xs_get hG hΓ (ci := 4) (kf := 5) rfl (Nat.le_of_ble_eq_true rfl) q2855 dX5_count_100) (fun _ => rfl) rfl ?_
    refine xw_goto (show xm_Imp g Γ 103 (xi_goto 107) from xs_goto hΓ dX5_count_103 (by decide)) ?_
    exact xw_iret (show xm_Imp g Γ 107 (xi_iret .int _) from xs_ireturn hΓ rfl dX5_count_107) (xn_int _) (hP0 _ (xl_fin e hp))
  · rw [if_neg c] at e
    refine xw_psh (v := (.int (-1))) (show xm_Imp g Γ 106 (xi_psh (.int (-1)) 107) from xs_iconst hΓ dX5_count_106 (by decide)) ?_
    exact xw_iret (show xm_Imp g Γ 107 (xi_iret .int _) from xs_ireturn hΓ rfl dX5_count_107) (xn_int _) (hP0 _ (xl_fin e hp))
