/-! THE REFERENCE as functions (printed by gen/mkmfun.py) -/
set_option maxRecDepth 100000
noncomputable def D_X5_keeps_52  (s : Int32 × xM_S) : Option ((Int32 × xM_S) ⊕ (xM_S)) :=
 (if 530 ≤ s.1 then
 xl_o (some (xM_f s.2 5 ((s.2.1 5) + 1))) else
 xo_b (xa_ix 530 s.1) (fun j1 =>
 xo_b (xa_ix 5300 ((530 * (s.2.1 5)) + s.1)) (fun j2 =>
 some (Sum.inl (s.1 + 1, (xM_a s.2 4 j2 (s.2.2 2 j1)))))))
noncomputable def L_X5_keeps_52  (s : Int32 × xM_S) : Option (xM_S) := xl_loop (D_X5_keeps_52 ) s
noncomputable def B_X5_keeps_50 (σ : xM_S) : Option (xM_S) :=
 L_X5_keeps_52 (0, σ)
noncomputable def D_X5_keeps_11  (s : Int32 × xM_S) : Option ((Int32 × xM_S) ⊕ (xM_S)) :=
 (if 4770 ≤ s.1 then
 xl_o (B_X5_keeps_50 (xM_f s.2 5 ((s.2.1 5) - 1))) else
 xo_b (xa_ix 5300 (s.1 + 530)) (fun j3 =>
 xo_b (xa_ix 5300 s.1) (fun j4 =>
 some (Sum.inl (s.1 + 1, (xM_a s.2 4 j4 (s.2.2 4 j3)))))))
noncomputable def L_X5_keeps_11  (s : Int32 × xM_S) : Option (xM_S) := xl_loop (D_X5_keeps_11 ) s
noncomputable def F_X5_keeps (σ : xM_S) : Option (xM_S) :=
 (if (σ.1 5) = 10 then
 L_X5_keeps_11 (0, σ) else
 B_X5_keeps_50 σ)
set_option maxHeartbeats 4000000 in
theorem K_X5_keeps {g : xm_G} (hG : xm_Gw g) {h0 : xm_H} {m : Nat} {ad : Nat → Nat} (hM : xM_ok h0 m ad) (hB : xk_B g h0)  (σ : xM_S) {o : xM_S} (e : F_X5_keeps σ = some o) {Q : xm_P} {X : xm_X} (hQ : Q none (xMp h0 m ad o)) : xm_Run g M_X5_keeps 1 [.ref m] (xMp h0 m ad σ) 0 0 Q X := by
  refine xm_Run.of pn_StringTableauModel (Nat.le_of_ble_eq_true rfl) (fun Γ hΓ => ?_)
  obtain ⟨P0, hP0, hp⟩ : ∃ P : xM_S → Prop, (∀ o, P o → Q none (xMp h0 m ad o)) ∧ P o := ⟨fun o => Q none (xMp h0 m ad o), fun _ h => h, hQ⟩
  clear hQ
  show xm_W g Γ 0 [some (.ref m), none] [] (xMp h0 m ad σ) 0 0
  have hL_52 : ∀  (s : Int32 × xM_S) (o : xM_S), L_X5_keeps_52  s = some o → P0 o → xm_W g Γ 52 [some (.ref m), some (.int s.1)] [] (xMp h0 m ad s.2) 0 0 := by
    skip
    refine xl_rule (WS := fun s : Int32 × xM_S => xm_W g Γ 52 [some (.ref m), some (.int s.1)] [] (xMp h0 m ad s.2) 0 0) ?_
    intro s o e hp
    obtain ⟨P1, hP1, hp⟩ : ∃ P : (Int32 × xM_S) ⊕ (xM_S) → Prop, (∀ o, P o → xl_P (fun s : Int32 × xM_S => xm_W g Γ 52 [some (.ref m), some (.int s.1)] [] (xMp h0 m ad s.2) 0 0) P0 o) ∧ P o := ⟨_, fun _ h => h, hp⟩
    unfold D_X5_keeps_52 at e
    refine xw_ild (show xm_Imp g Γ 52 (xi_ild 1 53) from xs_iload_n hΓ dX5_keeps_52) rfl ?_
    refine xw_psh (v := (.int (530))) (show xm_Imp g Γ 53 (xi_psh (.int (530)) 56) from xs_sipush hΓ dX5_keeps_53 (by decide)) ?_
    refine xw_ic (show xm_Imp g Γ 56 (xi_ic (fun x y => y ≤ x) 86 59) from xs_icmp_ge hΓ dX5_keeps_56 (by decide)) (fun c => ?_) (fun c => ?_)
    · rw [if_pos c] at e
      obtain ⟨_, e, hp⟩ := xl_o_s e (hP1 _ hp)
      refine xw_ald (show xm_Imp g Γ 86 (xi_ald 0 87) from xs_aload_n hΓ dX5_keeps_86) rfl ?_
      refine xw_ald (show xm_Imp g Γ 87 (xi_ald 0 88) from xs_aload_n hΓ dX5_keeps_87) rfl ?_
      refine xw_mgi (v := (s.2.1 5)) (show xm_Imp g Γ 88 (xi_get 4 5 91) from xs_get hG hΓ (ci := 4) (kf := 5) rfl (Nat.le_of_ble_eq_true rfl) q2855 dX5_keeps_88) (fun _ => rfl) rfl ?_
      refine xw_psh (v := (.int (1))) (show xm_Imp g Γ 91 (xi_psh (.int (1)) 92) from xs_iconst hΓ dX5_keeps_91 (by decide)) ?_
      refine xw_ii (show xm_Imp g Γ 92 (xi_ii (fun x y => x + y) 93) from xs_iadd hΓ dX5_keeps_92) ?_
      refine xw_mpi (show xm_Imp g Γ 93 (xi_put 4 5 (.int) 96) from xs_put hG hΓ (ci := 4) (kf := 5) rfl (Nat.le_of_ble_eq_true rfl) rfl (by decide +kernel) q2855 dX5_keeps_93) (fun _ _ => rfl) ⟨rfl, rfl⟩ ?_
      exact xw_vret (show xm_Imp g Γ 96 (xi_vret _) from xs_return hΓ rfl dX5_keeps_96) (hP0 _ (xl_fin e hp))
    · rw [if_neg c] at e
      refine xw_ald (show xm_Imp g Γ 59 (xi_ald 0 60) from xs_aload_n hΓ dX5_keeps_59) rfl ?_
      refine xw_mga (k := 4) (show xm_Imp g Γ 60 (xi_get 4 4 63) from xs_get hG hΓ (ci := 4) (kf := 4) rfl (Nat.le_of_ble_eq_true rfl) q2854 dX5_keeps_60) (fun _ => rfl) ?_
      refine xw_psh (v := (.int (530))) (show xm_Imp g Γ 63 (xi_psh (.int (530)) 66) from xs_sipush hΓ dX5_keeps_63 (by decide)) ?_
      refine xw_ald (show xm_Imp g Γ 66 (xi_ald 0 67) from xs_aload_n hΓ dX5_keeps_66) rfl ?_
      refine xw_mgi (v := (s.2.1 5)) (show xm_Imp g Γ 67 (xi_get 4 5 70) from xs_get hG hΓ (ci := 4) (kf := 5) rfl (Nat.le_of_ble_eq_true rfl) q2855 dX5_keeps_67) (fun _ => rfl) rfl ?_
      refine xw_ii (show xm_Imp g Γ 70 (xi_ii (fun x y => x * y) 71) from xs_imul hΓ dX5_keeps_70) ?_
      refine xw_ild (show xm_Imp g Γ 71 (xi_ild 1 72) from xs_iload_n hΓ dX5_keeps_71) rfl ?_
      refine xw_ii (show xm_Imp g Γ 72 (xi_ii (fun x y => x + y) 73) from xs_iadd hΓ dX5_keeps_72) ?_
      refine xw_ald (show xm_Imp g Γ 73 (xi_ald 0 74) from xs_aload_n hΓ dX5_keeps_73) rfl ?_
      refine xw_mga (k := 2) (show xm_Imp g Γ 74 (xi_get 4 2 77) from xs_get hG hΓ (ci := 4) (kf := 2) rfl (Nat.le_of_ble_eq_true rfl) q2852 dX5_keeps_74) (fun _ => rfl) ?_
      refine xw_ild (show xm_Imp g Γ 77 (xi_ild 1 78) from xs_iload_n hΓ dX5_keeps_77) rfl ?_
      obtain ⟨j1, e1, e⟩ := xo_b_s e
      refine xw_mial (k := 2) (v := (s.2.2 2 j1)) (show xm_Imp g Γ 78 (xi_ial 79) from xs_ial hG hΓ dX5_keeps_78) hM (by decide) rfl e1 rfl ?_
      obtain ⟨j2, e1, e⟩ := xo_b_s e
      refine xw_mias (k := 4) (show xm_Imp g Γ 79 (xi_ias 80) from xs_ias hG hΓ dX5_keeps_79) hM (by decide) rfl e1 ?_
      refine xw_inc (v := (1)) (ls' := [some (.ref m), some (.int (s.1 + 1))]) (show xm_Imp g Γ 80 (xi_inc 1 (1) 83) from xs_iinc hΓ dX5_keeps_80 (by decide) (Nat.le_of_ble_eq_true rfl)) rfl rfl ?_
      refine xw_goto (show xm_Imp g Γ 83 (xi_goto 52) from xs_goto hΓ dX5_keeps_83 (by decide)) ?_
      have hq := xl_P_inl (hP1 _ (xl_fin e hp)); exact hq
  have hB_50 : ∀ (σ : xM_S) (o : xM_S), B_X5_keeps_50 σ = some o → P0 o → xm_W g Γ 50 [some (.ref m), none] [] (xMp h0 m ad σ) 0 0 := by
    intro σ o e hp
    unfold B_X5_keeps_50 at e
    refine xw_psh (v := (.int (0))) (show xm_Imp g Γ 50 (xi_psh (.int (0)) 51) from xs_iconst hΓ dX5_keeps_50 (by decide)) ?_
    refine xw_ist (ls' := [some (.ref m), some (.int 0)]) (show xm_Imp g Γ 51 (xi_ist 1 52) from xs_istore_n hΓ dX5_keeps_51 (Nat.le_of_ble_eq_true rfl)) rfl ?_
    exact hL_52 _ _ e hp
  have hL_11 : ∀  (s : Int32 × xM_S) (o : xM_S), L_X5_keeps_11  s = some o → P0 o → xm_W g Γ 11 [some (.ref m), some (.int s.1)] [] (xMp h0 m ad s.2) 0 0 := by
    skip
    refine xl_rule (WS := fun s : Int32 × xM_S => xm_W g Γ 11 [some (.ref m), some (.int s.1)] [] (xMp h0 m ad s.2) 0 0) ?_
    intro s o e hp
    obtain ⟨P1, hP1, hp⟩ : ∃ P : (Int32 × xM_S) ⊕ (xM_S) → Prop, (∀ o, P o → xl_P (fun s : Int32 × xM_S => xm_W g Γ 11 [some (.ref m), some (.int s.1)] [] (xMp h0 m ad s.2) 0 0) P0 o) ∧ P o := ⟨_, fun _ h => h, hp⟩
    unfold D_X5_keeps_11 at e
    refine xw_ild (show xm_Imp g Γ 11 (xi_ild 1 12) from xs_iload_n hΓ dX5_keeps_11) rfl ?_
    refine xw_psh (v := (.int (4770))) (show xm_Imp g Γ 12 (xi_psh (.int (4770)) 15) from xs_sipush hΓ dX5_keeps_12 (by decide)) ?_
    refine xw_ic (show xm_Imp g Γ 15 (xi_ic (fun x y => y ≤ x) 40 18) from xs_icmp_ge hΓ dX5_keeps_15 (by decide)) (fun c => ?_) (fun c => ?_)
    · rw [if_pos c] at e
      obtain ⟨_, e, hp⟩ := xl_o_s e (hP1 _ hp)
      refine xw_ald (show xm_Imp g Γ 40 (xi_ald 0 41) from xs_aload_n hΓ dX5_keeps_40) rfl ?_
      refine xw_ald (show xm_Imp g Γ 41 (xi_ald 0 42) from xs_aload_n hΓ dX5_keeps_41) rfl ?_
      refine xw_mgi (v := (s.2.1 5)) (show xm_Imp g Γ 42 (xi_get 4 5 45) from xs_get hG hΓ (ci := 4) (kf := 5) rfl (Nat.le_of_ble_eq_true rfl) q2855 dX5_keeps_42) (fun _ => rfl) rfl ?_
      refine xw_psh (v := (.int (1))) (show xm_Imp g Γ 45 (xi_psh (.int (1)) 46) from xs_iconst hΓ dX5_keeps_45 (by decide)) ?_
      refine xw_ii (show xm_Imp g Γ 46 (xi_ii (fun x y => x - y) 47) from xs_isub hΓ dX5_keeps_46) ?_
      refine xw_mpi (show xm_Imp g Γ 47 (xi_put 4 5 (.int) 50) from xs_put hG hΓ (ci := 4) (kf := 5) rfl (Nat.le_of_ble_eq_true rfl) rfl (by decide +kernel) q2855 dX5_keeps_47) (fun _ _ => rfl) ⟨rfl, rfl⟩ ?_
      exact xm_lx (hB_50 _ _ e hp) (And.intro rfl (trivial))
    · rw [if_neg c] at e
      refine xw_ald (show xm_Imp g Γ 18 (xi_ald 0 19) from xs_aload_n hΓ dX5_keeps_18) rfl ?_
      refine xw_mga (k := 4) (show xm_Imp g Γ 19 (xi_get 4 4 22) from xs_get hG hΓ (ci := 4) (kf := 4) rfl (Nat.le_of_ble_eq_true rfl) q2854 dX5_keeps_19) (fun _ => rfl) ?_
      refine xw_ild (show xm_Imp g Γ 22 (xi_ild 1 23) from xs_iload_n hΓ dX5_keeps_22) rfl ?_
      refine xw_ald (show xm_Imp g Γ 23 (xi_ald 0 24) from xs_aload_n hΓ dX5_keeps_23) rfl ?_
      refine xw_mga (k := 4) (show xm_Imp g Γ 24 (xi_get 4 4 27) from xs_get hG hΓ (ci := 4) (kf := 4) rfl (Nat.le_of_ble_eq_true rfl) q2854 dX5_keeps_24) (fun _ => rfl) ?_
      refine xw_ild (show xm_Imp g Γ 27 (xi_ild 1 28) from xs_iload_n hΓ dX5_keeps_27) rfl ?_
      refine xw_psh (v := (.int (530))) (show xm_Imp g Γ 28 (xi_psh (.int (530)) 31) from xs_sipush hΓ dX5_keeps_28 (by decide)) ?_
      refine xw_ii (show xm_Imp g Γ 31 (xi_ii (fun x y => x + y) 32) from xs_iadd hΓ dX5_keeps_31) ?_
      obtain ⟨j3, e1, e⟩ := xo_b_s e
      refine xw_mial (k := 4) (v := (s.2.2 4 j3)) (show xm_Imp g Γ 32 (xi_ial 33) from xs_ial hG hΓ dX5_keeps_32) hM (by decide) rfl e1 rfl ?_
      obtain ⟨j4, e1, e⟩ := xo_b_s e
      refine xw_mias (k := 4) (show xm_Imp g Γ 33 (xi_ias 34) from xs_ias hG hΓ dX5_keeps_33) hM (by decide) rfl e1 ?_
      refine xw_inc (v := (1)) (ls' := [some (.ref m), some (.int (s.1 + 1))]) (show xm_Imp g Γ 34 (xi_inc 1 (1) 37) from xs_iinc hΓ dX5_keeps_34 (by decide) (Nat.le_of_ble_eq_true rfl)) rfl rfl ?_
      refine xw_goto (show xm_Imp g Γ 37 (xi_goto 11) from xs_goto hΓ dX5_keeps_37 (by decide)) ?_
      have hq := xl_P_inl (hP1 _ (xl_fin e hp)); exact hq
  unfold F_X5_keeps at e
  refine xw_ald (show xm_Imp g Γ 0 (xi_ald 0 1) from xs_aload_n hΓ dX5_keeps_0) rfl ?_
  refine xw_mgi (v := (σ.1 5)) (show xm_Imp g Γ 1 (xi_get 4 5 4) from xs_get hG hΓ (ci := 4) (kf := 5) rfl (Nat.le_of_ble_eq_true rfl) q2855 dX5_keeps_1) (fun _ => rfl) rfl ?_
  refine xw_psh (v := (.int (10))) (show xm_Imp g Γ 4 (xi_psh (.int (10)) 6) from xs_bipush hΓ dX5_keeps_4 (by decide)) ?_
  refine xw_ic (show xm_Imp g Γ 6 (xi_ic (fun x y => x = y) 9 50) from xs_icmp_ne hΓ dX5_keeps_6 (by decide)) (fun c => ?_) (fun c => ?_)
  · rw [if_pos c] at e
    refine xw_psh (v := (.int (0))) (show xm_Imp g Γ 9 (xi_psh (.int (0)) 10) from xs_iconst hΓ dX5_keeps_9 (by decide)) ?_
    refine xw_ist (ls' := [some (.ref m), some (.int 0)]) (show xm_Imp g Γ 10 (xi_ist 1 11) from xs_istore_n hΓ dX5_keeps_10 (Nat.le_of_ble_eq_true rfl)) rfl ?_
    exact hL_11 _ _ e hp
  · rw [if_neg c] at e
    exact hB_50 _ _ e hp
noncomputable def B_X5_changed_81 (l1 : Int32) (l2 : Int32) (σ : xM_S) : Option ((Int32 × Int32) ⊕ (Int32)) :=
 some (Sum.inl (l1, l2 + 1))
noncomputable def B_X5_changed_77 (l1 : Int32) (l2 : Int32) (σ : xM_S) : Option ((Int32 × Int32) ⊕ (Int32)) :=
 B_X5_changed_81 (l1 + 1) l2 σ
noncomputable def D_X5_changed_4 (σ : xM_S) (s : Int32 × Int32) : Option ((Int32 × Int32) ⊕ (Int32)) :=
 (if (σ.2 1 0) ≤ s.2 then
 xl_o (some (s.1)) else
 xo_b (xa_ix 530 (6 + s.2)) (fun j1 =>
 xo_b (xa_ix 530 (6 + s.2)) (fun j2 =>
 (if (σ.2 1 j1) = (σ.2 2 j2) then
 xo_b (xa_ix 530 (14 + s.2)) (fun j3 =>
 xo_b (xa_ix 530 (14 + s.2)) (fun j4 =>
 (if (σ.2 1 j3) = (σ.2 2 j4) then
 xo_b (xa_ix 530 (22 + s.2)) (fun j5 =>
 xo_b (xa_ix 530 (22 + s.2)) (fun j6 =>
 B_X5_changed_81 (if (σ.2 1 j5) = (σ.2 2 j6) then s.1 else s.1 + 1) s.2 σ)) else
 B_X5_changed_77 s.1 s.2 σ))) else
 B_X5_changed_77 s.1 s.2 σ))))
noncomputable def L_X5_changed_4 (σ : xM_S) (s : Int32 × Int32) : Option (Int32) := xl_loop (D_X5_changed_4 σ) s
noncomputable def F_X5_changed (σ : xM_S) : Option (Int32) :=
 L_X5_changed_4 σ (0, 0)
set_option maxHeartbeats 4000000 in
theorem K_X5_changed {g : xm_G} (hG : xm_Gw g) {h0 : xm_H} {m : Nat} {ad : Nat → Nat} (hM : xM_ok h0 m ad) (hB : xk_B g h0)  (σ : xM_S) {o : Int32} (e : F_X5_changed σ = some o) {Q : xm_P} {X : xm_X} (hQ : Q (some (.int o)) (xMp h0 m ad σ)) : xm_Run g M_X5_changed 1 [.ref m] (xMp h0 m ad σ) 0 0 Q X := by
  refine xm_Run.of pn_StringTableauModel (Nat.le_of_ble_eq_true rfl) (fun Γ hΓ => ?_)
  obtain ⟨P0, hP0, hp⟩ : ∃ P : Int32 → Prop, (∀ o, P o → Q (some (.int o)) (xMp h0 m ad σ)) ∧ P o := ⟨fun o => Q (some (.int o)) (xMp h0 m ad σ), fun _ h => h, hQ⟩
  clear hQ
  show xm_W g Γ 0 [some (.ref m), none, none] [] (xMp h0 m ad σ) 0 0
  have hL_4 : ∀  (s : Int32 × Int32) (o : Int32), L_X5_changed_4 σ s = some o → P0 o → xm_W g Γ 4 [some (.ref m), some (.int s.1), some (.int s.2)] [] (xMp h0 m ad σ) 0 0 := by
    skip
    refine xl_rule (WS := fun s : Int32 × Int32 => xm_W g Γ 4 [some (.ref m), some (.int s.1), some (.int s.2)] [] (xMp h0 m ad σ) 0 0) ?_
    intro s o e hp
    obtain ⟨P1, hP1, hp⟩ : ∃ P : (Int32 × Int32) ⊕ (Int32) → Prop, (∀ o, P o → xl_P (fun s : Int32 × Int32 => xm_W g Γ 4 [some (.ref m), some (.int s.1), some (.int s.2)] [] (xMp h0 m ad σ) 0 0) P0 o) ∧ P o := ⟨_, fun _ h => h, hp⟩
    have hB_81 : ∀ (l1 : Int32) (l2 : Int32) (o : (Int32 × Int32) ⊕ (Int32)), B_X5_changed_81 l1 l2 σ = some o → P1 o → xm_W g Γ 81 [some (.ref m), some (.int l1), some (.int l2)] [] (xMp h0 m ad σ) 0 0 := by
      intro l1 l2 o e hp
      unfold B_X5_changed_81 at e
      refine xw_inc (v := (1)) (ls' := [some (.ref m), some (.int l1), some (.int (l2 + 1))]) (show xm_Imp g Γ 81 (xi_inc 2 (1) 84) from xs_iinc hΓ dX5_changed_81 (by decide) (Nat.le_of_ble_eq_true rfl)) rfl rfl ?_
      refine xw_goto (show xm_Imp g Γ 84 (xi_goto 4) from xs_goto hΓ dX5_changed_84 (by decide)) ?_
      have hq := xl_P_inl (hP1 _ (xl_fin e hp)); exact hq
    have hB_77 : ∀ (l1 : Int32) (l2 : Int32) (o : (Int32 × Int32) ⊕ (Int32)), B_X5_changed_77 l1 l2 σ = some o → P1 o → xm_W g Γ 77 [some (.ref m), some (.int l1), some (.int l2)] [] (xMp h0 m ad σ) 0 0 := by
      intro l1 l2 o e hp
      unfold B_X5_changed_77 at e
      refine xw_ild (show xm_Imp g Γ 77 (xi_ild 1 78) from xs_iload_n hΓ dX5_changed_77) rfl ?_
      refine xw_psh (v := (.int (1))) (show xm_Imp g Γ 78 (xi_psh (.int (1)) 79) from xs_iconst hΓ dX5_changed_78 (by decide)) ?_
      refine xw_ii (show xm_Imp g Γ 79 (xi_ii (fun x y => x + y) 80) from xs_iadd hΓ dX5_changed_79) ?_
      refine xw_ist (ls' := [some (.ref m), some (.int (l1 + 1)), some (.int l2)]) (show xm_Imp g Γ 80 (xi_ist 1 81) from xs_istore_n hΓ dX5_changed_80 (Nat.le_of_ble_eq_true rfl)) rfl ?_
      exact hB_81 _ _ _ e hp
    unfold D_X5_changed_4 at e
    refine xw_ild (show xm_Imp g Γ 4 (xi_ild 2 5) from xs_iload_n hΓ dX5_changed_4) rfl ?_
    refine xw_ald (show xm_Imp g Γ 5 (xi_ald 0 6) from xs_aload_n hΓ dX5_changed_5) rfl ?_
    refine xw_mga (k := 1) (show xm_Imp g Γ 6 (xi_get 4 1 9) from xs_get hG hΓ (ci := 4) (kf := 1) rfl (Nat.le_of_ble_eq_true rfl) q2851 dX5_changed_6) (fun _ => rfl) ?_
    refine xw_psh (v := (.int (0))) (show xm_Imp g Γ 9 (xi_psh (.int (0)) 10) from xs_iconst hΓ dX5_changed_9 (by decide)) ?_
    refine xw_mial (k := 1) (j := 0) (v := (σ.2 1 0)) (show xm_Imp g Γ 10 (xi_ial 11) from xs_ial hG hΓ dX5_changed_10) hM (by decide) rfl rfl rfl ?_
    refine xw_ic (show xm_Imp g Γ 11 (xi_ic (fun x y => y ≤ x) 87 14) from xs_icmp_ge hΓ dX5_changed_11 (by decide)) (fun c => ?_) (fun c => ?_)
    · rw [if_pos c] at e
      obtain ⟨_, e, hp⟩ := xl_o_s e (hP1 _ hp)
      refine xw_ild (show xm_Imp g Γ 87 (xi_ild 1 88) from xs_iload_n hΓ dX5_changed_87) rfl ?_
      exact xw_iret (show xm_Imp g Γ 88 (xi_iret .int _) from xs_ireturn hΓ rfl dX5_changed_88) (xn_int _) (hP0 _ (xl_fin e hp))
    · rw [if_neg c] at e
      refine xw_ald (show xm_Imp g Γ 14 (xi_ald 0 15) from xs_aload_n hΓ dX5_changed_14) rfl ?_
      refine xw_mga (k := 1) (show xm_Imp g Γ 15 (xi_get 4 1 18) from xs_get hG hΓ (ci := 4) (kf := 1) rfl (Nat.le_of_ble_eq_true rfl) q2851 dX5_changed_15) (fun _ => rfl) ?_
      refine xw_psh (v := (.int (6))) (show xm_Imp g Γ 18 (xi_psh (.int (6)) 20) from xs_bipush hΓ dX5_changed_18 (by decide)) ?_
      refine xw_ild (show xm_Imp g Γ 20 (xi_ild 2 21) from xs_iload_n hΓ dX5_changed_20) rfl ?_
      refine xw_ii (show xm_Imp g Γ 21 (xi_ii (fun x y => x + y) 22) from xs_iadd hΓ dX5_changed_21) ?_
      obtain ⟨j1, e1, e⟩ := xo_b_s e
      refine xw_mial (k := 1) (v := (σ.2 1 j1)) (show xm_Imp g Γ 22 (xi_ial 23) from xs_ial hG hΓ dX5_changed_22) hM (by decide) rfl e1 rfl ?_
      refine xw_ald (show xm_Imp g Γ 23 (xi_ald 0 24) from xs_aload_n hΓ dX5_changed_23) rfl ?_
      refine xw_mga (k := 2) (show xm_Imp g Γ 24 (xi_get 4 2 27) from xs_get hG hΓ (ci := 4) (kf := 2) rfl (Nat.le_of_ble_eq_true rfl) q2852 dX5_changed_24) (fun _ => rfl) ?_
      refine xw_psh (v := (.int (6))) (show xm_Imp g Γ 27 (xi_psh (.int (6)) 29) from xs_bipush hΓ dX5_changed_27 (by decide)) ?_
      refine xw_ild (show xm_Imp g Γ 29 (xi_ild 2 30) from xs_iload_n hΓ dX5_changed_29) rfl ?_
      refine xw_ii (show xm_Imp g Γ 30 (xi_ii (fun x y => x + y) 31) from xs_iadd hΓ dX5_changed_30) ?_
      obtain ⟨j2, e1, e⟩ := xo_b_s e
      refine xw_mial (k := 2) (v := (σ.2 2 j2)) (show xm_Imp g Γ 31 (xi_ial 32) from xs_ial hG hΓ dX5_changed_31) hM (by decide) rfl e1 rfl ?_
      refine xw_ic (show xm_Imp g Γ 32 (xi_ic (fun x y => x = y) 35 77) from xs_icmp_ne hΓ dX5_changed_32 (by decide)) (fun c => ?_) (fun c => ?_)
      · rw [if_pos c] at e
        refine xw_ald (show xm_Imp g Γ 35 (xi_ald 0 36) from xs_aload_n hΓ dX5_changed_35) rfl ?_
        refine xw_mga (k := 1) (show xm_Imp g Γ 36 (xi_get 4 1 39) from xs_get hG hΓ (ci := 4) (kf := 1) rfl (Nat.le_of_ble_eq_true rfl) q2851 dX5_changed_36) (fun _ => rfl) ?_
        refine xw_psh (v := (.int (14))) (show xm_Imp g Γ 39 (xi_psh (.int (14)) 41) from xs_bipush hΓ dX5_changed_39 (by decide)) ?_
        refine xw_ild (show xm_Imp g Γ 41 (xi_ild 2 42) from xs_iload_n hΓ dX5_changed_41) rfl ?_
        refine xw_ii (show xm_Imp g Γ 42 (xi_ii (fun x y => x + y) 43) from xs_iadd hΓ dX5_changed_42) ?_
        obtain ⟨j3, e1, e⟩ := xo_b_s e
        refine xw_mial (k := 1) (v := (σ.2 1 j3)) (show xm_Imp g Γ 43 (xi_ial 44) from xs_ial hG hΓ dX5_changed_43) hM (by decide) rfl e1 rfl ?_
        refine xw_ald (show xm_Imp g Γ 44 (xi_ald 0 45) from xs_aload_n hΓ dX5_changed_44) rfl ?_
        refine xw_mga (k := 2) (show xm_Imp g Γ 45 (xi_get 4 2 48) from xs_get hG hΓ (ci := 4) (kf := 2) rfl (Nat.le_of_ble_eq_true rfl) q2852 dX5_changed_45) (fun _ => rfl) ?_
        refine xw_psh (v := (.int (14))) (show xm_Imp g Γ 48 (xi_psh (.int (14)) 50) from xs_bipush hΓ dX5_changed_48 (by decide)) ?_
        refine xw_ild (show xm_Imp g Γ 50 (xi_ild 2 51) from xs_iload_n hΓ dX5_changed_50) rfl ?_
        refine xw_ii (show xm_Imp g Γ 51 (xi_ii (fun x y => x + y) 52) from xs_iadd hΓ dX5_changed_51) ?_
        obtain ⟨j4, e1, e⟩ := xo_b_s e
        refine xw_mial (k := 2) (v := (σ.2 2 j4)) (show xm_Imp g Γ 52 (xi_ial 53) from xs_ial hG hΓ dX5_changed_52) hM (by decide) rfl e1 rfl ?_
        refine xw_ic (show xm_Imp g Γ 53 (xi_ic (fun x y => x = y) 56 77) from xs_icmp_ne hΓ dX5_changed_53 (by decide)) (fun c => ?_) (fun c => ?_)
        · rw [if_pos c] at e
          refine xw_ald (show xm_Imp g Γ 56 (xi_ald 0 57) from xs_aload_n hΓ dX5_changed_56) rfl ?_
          refine xw_mga (k := 1) (show xm_Imp g Γ 57 (xi_get 4 1 60) from xs_get hG hΓ (ci := 4) (kf := 1) rfl (Nat.le_of_ble_eq_true rfl) q2851 dX5_changed_57) (fun _ => rfl) ?_
          refine xw_psh (v := (.int (22))) (show xm_Imp g Γ 60 (xi_psh (.int (22)) 62) from xs_bipush hΓ dX5_changed_60 (by decide)) ?_
          refine xw_ild (show xm_Imp g Γ 62 (xi_ild 2 63) from xs_iload_n hΓ dX5_changed_62) rfl ?_
          refine xw_ii (show xm_Imp g Γ 63 (xi_ii (fun x y => x + y) 64) from xs_iadd hΓ dX5_changed_63) ?_
          obtain ⟨j5, e1, e⟩ := xo_b_s e
          refine xw_mial (k := 1) (v := (σ.2 1 j5)) (show xm_Imp g Γ 64 (xi_ial 65) from xs_ial hG hΓ dX5_changed_64) hM (by decide) rfl e1 rfl ?_
          refine xw_ald (show xm_Imp g Γ 65 (xi_ald 0 66) from xs_aload_n hΓ dX5_changed_65) rfl ?_
          refine xw_mga (k := 2) (show xm_Imp g Γ 66 (xi_get 4 2 69) from xs_get hG hΓ (ci := 4) (kf := 2) rfl (Nat.le_of_ble_eq_true rfl) q2852 dX5_changed_66) (fun _ => rfl) ?_
          refine xw_psh (v := (.int (22))) (show xm_Imp g Γ 69 (xi_psh (.int (22)) 71) from xs_bipush hΓ dX5_changed_69 (by decide)) ?_
          refine xw_ild (show xm_Imp g Γ 71 (xi_ild 2 72) from xs_iload_n hΓ dX5_changed_71) rfl ?_
          refine xw_ii (show xm_Imp g Γ 72 (xi_ii (fun x y => x + y) 73) from xs_iadd hΓ dX5_changed_72) ?_
          obtain ⟨j6, e1, e⟩ := xo_b_s e
          refine xw_mial (k := 2) (v := (σ.2 2 j6)) (show xm_Imp g Γ 73 (xi_ial 74) from xs_ial hG hΓ dX5_changed_73) hM (by decide) rfl e1 rfl ?_
          refine xw_ic (show xm_Imp g Γ 74 (xi_ic (fun x y => x = y) 81 77) from xs_icmp_eq hΓ dX5_changed_74 (by decide)) (fun c => ?_) (fun c => ?_)
          · rw [if_pos c] at e
            exact hB_81 _ _ _ e hp
          · rw [if_neg c] at e
            refine xw_ild (show xm_Imp g Γ 77 (xi_ild 1 78) from xs_iload_n hΓ dX5_changed_77) rfl ?_
            refine xw_psh (v := (.int (1))) (show xm_Imp g Γ 78 (xi_psh (.int (1)) 79) from xs_iconst hΓ dX5_changed_78 (by decide)) ?_
            refine xw_ii (show xm_Imp g Γ 79 (xi_ii (fun x y => x + y) 80) from xs_iadd hΓ dX5_changed_79) ?_
            refine xw_ist (ls' := [some (.ref m), some (.int (s.1 + 1)), some (.int s.2)]) (show xm_Imp g Γ 80 (xi_ist 1 81) from xs_istore_n hΓ dX5_changed_80 (Nat.le_of_ble_eq_true rfl)) rfl ?_
            exact hB_81 _ _ _ e hp
        · rw [if_neg c] at e
          exact hB_77 _ _ _ e hp
      · rw [if_neg c] at e
        exact hB_77 _ _ _ e hp
  unfold F_X5_changed at e
  refine xw_psh (v := (.int (0))) (show xm_Imp g Γ 0 (xi_psh (.int (0)) 1) from xs_iconst hΓ dX5_changed_0 (by decide)) ?_
  refine xw_ist (ls' := [some (.ref m), some (.int 0), none]) (show xm_Imp g Γ 1 (xi_ist 1 2) from xs_istore_n hΓ dX5_changed_1 (Nat.le_of_ble_eq_true rfl)) rfl ?_
  refine xw_psh (v := (.int (0))) (show xm_Imp g Γ 2 (xi_psh (.int (0)) 3) from xs_iconst hΓ dX5_changed_2 (by decide)) ?_
  refine xw_ist (ls' := [some (.ref m), some (.int 0), some (.int 0)]) (show xm_Imp g Γ 3 (xi_ist 2 4) from xs_istore_n hΓ dX5_changed_3 (Nat.le_of_ble_eq_true rfl)) rfl ?_
  exact hL_4 _ _ e hp
noncomputable def B_X5_gate_74 (l1 : Int32) (l2 : Int32) (l3 : Int32) (s1 : Int32) (σ : xM_S) : Option (Int32 × xM_S) :=
 xo_b (F_X5_may s1 2 σ) (fun v2 =>
 (if v2.1 = 0 then
 some ((0, v2.2)) else
 xo_b (F_X5_starts v2.2) (fun v3 =>
 xo_b (F_X5_goes l1 l2 l3 v3) (fun v4 =>
 xo_b (F_X5_trails l1 l2 l3 v4) (fun v5 =>
 xo_b (F_X5_keeps v5) (fun v6 =>
 xo_b (F_X5_changed v6) (fun v7 =>
 some ((v7, v6)))))))))
noncomputable def B_X5_gate_40 (l1 : Int32) (l2 : Int32) (l3 : Int32) (l4 : Int32) (s1 : Int32) (σ : xM_S) : Option (Int32 × xM_S) :=
 xo_b (F_X5_is s1 σ) (fun v1 =>
 (if v1.1 = 0 then
 some ((0, v1.2)) else
 B_X5_gate_74 l1 l2 l3 (if (F_X5_isIn l1.toInt64 0 8) = 0 then 0 else (if l4 = 0 then 1 else (if l2 = l3 then 0 else 1))) v1.2))
noncomputable def F_X5_gate (p1 : Int32) (p2 : Int32) (p3 : Int32) (σ : xM_S) : Option (Int32 × xM_S) :=
 B_X5_gate_40 p1 p2 p3 (F_X5_isIn p1.toInt64 6 8) (if (F_X5_isQubit p2 σ) = 0 then 0 else (if (F_X5_isIn p1.toInt64 6 8) = 0 then 1 else (if (F_X5_isQubit p3 σ) = 0 then 0 else 1))) σ
set_option maxHeartbeats 4000000 in
theorem K_X5_gate {g : xm_G} (hG : xm_Gw g) {h0 : xm_H} {m : Nat} {ad : Nat → Nat} (hM : xM_ok h0 m ad) (hB : xk_B g h0) (p1 : Int32) (p2 : Int32) (p3 : Int32) (σ : xM_S) {o : Int32 × xM_S} (e : F_X5_gate p1 p2 p3 σ = some o) {Q : xm_P} {X : xm_X} (hQ : Q (some (.int o.1)) (xMp h0 m ad o.2)) : xm_Run g M_X5_gate 6 [.ref m, .int p1, .int p2, .int p3] (xMp h0 m ad σ) 0 0 Q X := by
  refine xm_Run.of pn_StringTableauModel (Nat.le_of_ble_eq_true rfl) (fun Γ hΓ => ?_)
  obtain ⟨P0, hP0, hp⟩ : ∃ P : Int32 × xM_S → Prop, (∀ o, P o → Q (some (.int o.1)) (xMp h0 m ad o.2)) ∧ P o := ⟨fun o => Q (some (.int o.1)) (xMp h0 m ad o.2), fun _ h => h, hQ⟩
  clear hQ
  show xm_W g Γ 0 [some (.ref m), some (.int p1), some (.int p2), some (.int p3), none] [] (xMp h0 m ad σ) 0 0
  have hB_74 : ∀ (l1 : Int32) (l2 : Int32) (l3 : Int32) (s1 : Int32) (σ : xM_S) (o : Int32 × xM_S), B_X5_gate_74 l1 l2 l3 s1 σ = some o → P0 o → xm_W g Γ 74 [some (.ref m), some (.int l1), some (.int l2), some (.int l3), none] [.int s1, .ref m] (xMp h0 m ad σ) 0 0 := by
    intro l1 l2 l3 s1 σ o e hp
    unfold B_X5_gate_74 at e
    refine xw_psh (v := (.int (2))) (show xm_Imp g Γ 74 (xi_psh (.int (2)) 75) from xs_iconst hΓ dX5_gate_74 (by decide)) ?_
    obtain ⟨v2, e1, e⟩ := xo_b_s e
    refine xw_mv2 (show xm_Imp g Γ 75 (xi_vir g 4 M_X5_may 1 2 78) from xs_invV hG hΓ k_X5_may rfl (ci := 4) rfl q3003 q3005 qs48 dX5_gate_75) rfl (fun Q X hQ => K_X5_may hG hM hB s1 2 σ e1 hQ) ?_
    refine xw_if (show xm_Imp g Γ 78 (xi_if (fun x => x = 0) 81 83) from xs_if_ne hΓ dX5_gate_78 (by decide)) (fun c => ?_) (fun c => ?_)
    · rw [if_pos c] at e
      refine xw_psh (v := (.int (0))) (show xm_Imp g Γ 81 (xi_psh (.int (0)) 82) from xs_iconst hΓ dX5_gate_81 (by decide)) ?_
      exact xw_iret (show xm_Imp g Γ 82 (xi_iret .int _) from xs_ireturn hΓ rfl dX5_gate_82) (xn_int _) (hP0 _ (xl_fin e hp))
    · rw [if_neg c] at e
      refine xw_ald (show xm_Imp g Γ 83 (xi_ald 0 84) from xs_aload_n hΓ dX5_gate_83) rfl ?_
      obtain ⟨v3, e1, e⟩ := xo_b_s e
      refine xw_mu0 (show xm_Imp g Γ 84 (xi_vir g 4 M_X5_starts 2 0 87) from xs_invV hG hΓ k_X5_starts rfl (ci := 4) rfl q3007 q3009 qs49 dX5_gate_84) rfl (fun Q X hQ => K_X5_starts hG hM hB v2.2 e1 hQ) ?_
      refine xw_ald (show xm_Imp g Γ 87 (xi_ald 0 88) from xs_aload_n hΓ dX5_gate_87) rfl ?_
      refine xw_ild (show xm_Imp g Γ 88 (xi_ild 1 89) from xs_iload_n hΓ dX5_gate_88) rfl ?_
      refine xw_ild (show xm_Imp g Γ 89 (xi_ild 2 90) from xs_iload_n hΓ dX5_gate_89) rfl ?_
      refine xw_ild (show xm_Imp g Γ 90 (xi_ild 3 91) from xs_iload_n hΓ dX5_gate_90) rfl ?_
      obtain ⟨v4, e1, e⟩ := xo_b_s e
      refine xw_mu3 (show xm_Imp g Γ 91 (xi_vir g 4 M_X5_goes 5 3 94) from xs_invV hG hΓ k_X5_goes rfl (ci := 4) rfl q3014 q3016 qs50 dX5_gate_91) rfl (fun Q X hQ => K_X5_goes hG hM hB l1 l2 l3 v3 e1 hQ) ?_
      refine xw_ald (show xm_Imp g Γ 94 (xi_ald 0 95) from xs_aload_n hΓ dX5_gate_94) rfl ?_
      refine xw_ild (show xm_Imp g Γ 95 (xi_ild 1 96) from xs_iload_n hΓ dX5_gate_95) rfl ?_
      refine xw_ild (show xm_Imp g Γ 96 (xi_ild 2 97) from xs_iload_n hΓ dX5_gate_96) rfl ?_
      refine xw_ild (show xm_Imp g Γ 97 (xi_ild 3 98) from xs_iload_n hΓ dX5_gate_97) rfl ?_
      obtain ⟨v5, e1, e⟩ := xo_b_s e
      refine xw_mu3 (show xm_Imp g Γ 98 (xi_vir g 4 M_X5_trails 1 3 101) from xs_invV hG hΓ k_X5_trails rfl (ci := 4) rfl q3048 q3050 qs57 dX5_gate_98) rfl (fun Q X hQ => K_X5_trails hG hM hB l1 l2 l3 v4 e1 hQ) ?_
      refine xw_ald (show xm_Imp g Γ 101 (xi_ald 0 102) from xs_aload_n hΓ dX5_gate_101) rfl ?_
      obtain ⟨v6, e1, e⟩ := xo_b_s e
      refine xw_mu0 (show xm_Imp g Γ 102 (xi_vir g 4 M_X5_keeps 1 0 105) from xs_invV hG hΓ k_X5_keeps rfl (ci := 4) rfl q3052 q3054 qs58 dX5_gate_102) rfl (fun Q X hQ => K_X5_keeps hG hM hB v5 e1 hQ) ?_
      refine xw_ald (show xm_Imp g Γ 105 (xi_ald 0 106) from xs_aload_n hΓ dX5_gate_105) rfl ?_
      obtain ⟨v7, e1, e⟩ := xo_b_s e
      refine xw_mv0 (show xm_Imp g Γ 106 (xi_vir g 4 M_X5_changed 1 0 109) from xs_invV hG hΓ k_X5_changed rfl (ci := 4) rfl q3056 q3058 qs59 dX5_gate_106) rfl (fun Q X hQ => K_X5_changed hG hM hB v6 e1 hQ) ?_
      exact xw_iret (show xm_Imp g Γ 109 (xi_iret .int _) from xs_ireturn hΓ rfl dX5_gate_109) (xn_int _) (hP0 _ (xl_fin e hp))
  have hB_40 : ∀ (l1 : Int32) (l2 : Int32) (l3 : Int32) (l4 : Int32) (s1 : Int32) (σ : xM_S) (o : Int32 × xM_S), B_X5_gate_40 l1 l2 l3 l4 s1 σ = some o → P0 o → xm_W g Γ 40 [some (.ref m), some (.int l1), some (.int l2), some (.int l3), some (.int l4)] [.int s1, .ref m] (xMp h0 m ad σ) 0 0 := by
    intro l1 l2 l3 l4 s1 σ o e hp
    unfold B_X5_gate_40 at e
    obtain ⟨v1, e1, e⟩ := xo_b_s e
    refine xw_mv1 (show xm_Imp g Γ 40 (xi_vir g 4 M_X5_is 1 1 43) from xs_invV hG hΓ k_X5_is rfl (ci := 4) rfl q2986 q2988 qs46 dX5_gate_40) rfl (fun Q X hQ => K_X5_is hG hM hB s1 σ e1 hQ) ?_
    refine xw_if (show xm_Imp g Γ 43 (xi_if (fun x => x = 0) 81 46) from xs_if_eq hΓ dX5_gate_43 (by decide)) (fun c => ?_) (fun c => ?_)
    · rw [if_pos c] at e
      refine xw_psh (v := (.int (0))) (show xm_Imp g Γ 81 (xi_psh (.int (0)) 82) from xs_iconst hΓ dX5_gate_81 (by decide)) ?_
      exact xw_iret (show xm_Imp g Γ 82 (xi_iret .int _) from xs_ireturn hΓ rfl dX5_gate_82) (xn_int _) (hP0 _ (xl_fin e hp))
    · rw [if_neg c] at e
      refine xw_ald (show xm_Imp g Γ 46 (xi_ald 0 47) from xs_aload_n hΓ dX5_gate_46) rfl ?_
      refine xw_ild (show xm_Imp g Γ 47 (xi_ild 1 48) from xs_iload_n hΓ dX5_gate_47) rfl ?_
      refine xw_i2l (show xm_Imp g Γ 48 (xi_i2l 49) from xs_i2l hΓ dX5_gate_48) ?_
      refine xw_psh (v := (.long 0)) (show xm_Imp g Γ 49 (xi_psh (.long 0) 50) from xs_lconst hΓ dX5_gate_49 (by decide)) ?_
      refine xw_psh (v := (.long (8))) (show xm_Imp g Γ 50 (xi_psh (.long (8)) 53) from xs_ldc2 hG hΓ q2995 dX5_gate_50) ?_
      refine xw_sv3 (show xm_Imp g Γ 53 (xi_inv g M_X5_isIn 1 3 56) from xs_invS hG hΓ k_X5_isIn rfl q2996 q2997 dX5_gate_53) rfl (fun Q X hQ => K_X5_isIn hG l1.toInt64 0 8 rfl hQ) ?_
      refine xw_if (show xm_Imp g Γ 56 (xi_if (fun x => x = 0) 73 59) from xs_if_eq hΓ dX5_gate_56 (by decide)) (fun c => ?_) (fun c => ?_)
      · rw [if_pos c] at e
        refine xw_psh (v := (.int (0))) (show xm_Imp g Γ 73 (xi_psh (.int (0)) 74) from xs_iconst hΓ dX5_gate_73 (by decide)) ?_
        exact xm_lx (hB_74 _ _ _ _ _ _ e hp) (And.intro rfl (And.intro rfl (And.intro rfl (And.intro rfl (trivial)))))
      · rw [if_neg c] at e
        refine xw_ild (show xm_Imp g Γ 59 (xi_ild 4 61) from xs_iload hΓ dX5_gate_59) rfl ?_
        refine xw_if (show xm_Imp g Γ 61 (xi_if (fun x => x = 0) 69 64) from xs_if_eq hΓ dX5_gate_61 (by decide)) (fun c => ?_) (fun c => ?_)
        · rw [if_pos c] at e
          refine xw_psh (v := (.int (1))) (show xm_Imp g Γ 69 (xi_psh (.int (1)) 70) from xs_iconst hΓ dX5_gate_69 (by decide)) ?_
          refine xw_goto (show xm_Imp g Γ 70 (xi_goto 74) from xs_goto hΓ dX5_gate_70 (by decide)) ?_
          exact xm_lx (hB_74 _ _ _ _ _ _ e hp) (And.intro rfl (And.intro rfl (And.intro rfl (And.intro rfl (trivial)))))
        · rw [if_neg c] at e
          refine xw_ild (show xm_Imp g Γ 64 (xi_ild 2 65) from xs_iload_n hΓ dX5_gate_64) rfl ?_
          refine xw_ild (show xm_Imp g Γ 65 (xi_ild 3 66) from xs_iload_n hΓ dX5_gate_65) rfl ?_
          refine xw_ic (show xm_Imp g Γ 66 (xi_ic (fun x y => x = y) 73 69) from xs_icmp_eq hΓ dX5_gate_66 (by decide)) (fun c => ?_) (fun c => ?_)
          · rw [if_pos c] at e
            refine xw_psh (v := (.int (0))) (show xm_Imp g Γ 73 (xi_psh (.int (0)) 74) from xs_iconst hΓ dX5_gate_73 (by decide)) ?_
            exact xm_lx (hB_74 _ _ _ _ _ _ e hp) (And.intro rfl (And.intro rfl (And.intro rfl (And.intro rfl (trivial)))))
          · rw [if_neg c] at e
            refine xw_psh (v := (.int (1))) (show xm_Imp g Γ 69 (xi_psh (.int (1)) 70) from xs_iconst hΓ dX5_gate_69 (by decide)) ?_
            refine xw_goto (show xm_Imp g Γ 70 (xi_goto 74) from xs_goto hΓ dX5_gate_70 (by decide)) ?_
            exact xm_lx (hB_74 _ _ _ _ _ _ e hp) (And.intro rfl (And.intro rfl (And.intro rfl (And.intro rfl (trivial)))))
  unfold F_X5_gate at e
  refine xw_ild (show xm_Imp g Γ 0 (xi_ild 1 1) from xs_iload_n hΓ dX5_gate_0) rfl ?_
  refine xw_i2l (show xm_Imp g Γ 1 (xi_i2l 2) from xs_i2l hΓ dX5_gate_1) ?_
  refine xw_psh (v := (.long (6))) (show xm_Imp g Γ 2 (xi_psh (.long (6)) 5) from xs_ldc2 hG hΓ q2994 dX5_gate_2) ?_
  refine xw_psh (v := (.long (8))) (show xm_Imp g Γ 5 (xi_psh (.long (8)) 8) from xs_ldc2 hG hΓ q2995 dX5_gate_5) ?_
  refine xw_sv3 (show xm_Imp g Γ 8 (xi_inv g M_X5_isIn 1 3 11) from xs_invS hG hΓ k_X5_isIn rfl q2996 q2997 dX5_gate_8) rfl (fun Q X hQ => K_X5_isIn hG p1.toInt64 6 8 rfl hQ) ?_
  refine xw_ist (ls' := [some (.ref m), some (.int p1), some (.int p2), some (.int p3), some (.int (F_X5_isIn p1.toInt64 6 8))]) (show xm_Imp g Γ 11 (xi_ist 4 13) from xs_istore hΓ dX5_gate_11 (Nat.le_of_ble_eq_true rfl)) rfl ?_
  refine xw_ald (show xm_Imp g Γ 13 (xi_ald 0 14) from xs_aload_n hΓ dX5_gate_13) rfl ?_
  refine xw_ald (show xm_Imp g Γ 14 (xi_ald 0 15) from xs_aload_n hΓ dX5_gate_14) rfl ?_
  refine xw_ild (show xm_Imp g Γ 15 (xi_ild 2 16) from xs_iload_n hΓ dX5_gate_15) rfl ?_
  refine xw_mv1 (show xm_Imp g Γ 16 (xi_vir g 4 M_X5_isQubit 2 1 19) from xs_invV hG hΓ k_X5_isQubit rfl (ci := 4) rfl q2999 q3001 qs47 dX5_gate_16) rfl (fun Q X hQ => K_X5_isQubit hG hM hB p2 σ rfl hQ) ?_
  refine xw_if (show xm_Imp g Γ 19 (xi_if (fun x => x = 0) 39 22) from xs_if_eq hΓ dX5_gate_19 (by decide)) (fun c => ?_) (fun c => ?_)
  · rw [if_pos c] at e
    refine xw_psh (v := (.int (0))) (show xm_Imp g Γ 39 (xi_psh (.int (0)) 40) from xs_iconst hΓ dX5_gate_39 (by decide)) ?_
    exact hB_40 _ _ _ _ _ _ _ e hp
  · rw [if_neg c] at e
    refine xw_ild (show xm_Imp g Γ 22 (xi_ild 4 24) from xs_iload hΓ dX5_gate_22) rfl ?_
    refine xw_if (show xm_Imp g Γ 24 (xi_if (fun x => x = 0) 35 27) from xs_if_eq hΓ dX5_gate_24 (by decide)) (fun c => ?_) (fun c => ?_)
    · rw [if_pos c] at e
      refine xw_psh (v := (.int (1))) (show xm_Imp g Γ 35 (xi_psh (.int (1)) 36) from xs_iconst hΓ dX5_gate_35 (by decide)) ?_
      refine xw_goto (show xm_Imp g Γ 36 (xi_goto 40) from xs_goto hΓ dX5_gate_36 (by decide)) ?_
      exact hB_40 _ _ _ _ _ _ _ e hp
    · rw [if_neg c] at e
      refine xw_ald (show xm_Imp g Γ 27 (xi_ald 0 28) from xs_aload_n hΓ dX5_gate_27) rfl ?_
      refine xw_ild (show xm_Imp g Γ 28 (xi_ild 3 29) from xs_iload_n hΓ dX5_gate_28) rfl ?_
      refine xw_mv1 (show xm_Imp g Γ 29 (xi_vir g 4 M_X5_isQubit 2 1 32) from xs_invV hG hΓ k_X5_isQubit rfl (ci := 4) rfl q2999 q3001 qs47 dX5_gate_29) rfl (fun Q X hQ => K_X5_isQubit hG hM hB p3 σ rfl hQ) ?_
      refine xw_if (show xm_Imp g Γ 32 (xi_if (fun x => x = 0) 39 35) from xs_if_eq hΓ dX5_gate_32 (by decide)) (fun c => ?_) (fun c => ?_)
      · rw [if_pos c] at e
        refine xw_psh (v := (.int (0))) (show xm_Imp g Γ 39 (xi_psh (.int (0)) 40) from xs_iconst hΓ dX5_gate_39 (by decide)) ?_
        exact hB_40 _ _ _ _ _ _ _ e hp
      · rw [if_neg c] at e
        refine xw_psh (v := (.int (1))) (show xm_Imp g Γ 35 (xi_psh (.int (1)) 36) from xs_iconst hΓ dX5_gate_35 (by decide)) ?_
        refine xw_goto (show xm_Imp g Γ 36 (xi_goto 40) from xs_goto hΓ dX5_gate_36 (by decide)) ?_
        exact hB_40 _ _ _ _ _ _ _ e hp
noncomputable def B_X5_reverse_110 (l1 : Int32) (l2 : Int32) (l3 : Int32) (s1 : Int32) (σ : xM_S) : Option ((Int32 × xM_S) ⊕ (Int32 × xM_S)) :=
 xo_b (xa_ix 530 (l3 + 1)) (fun j6 =>
 xo_b (xa_ix 530 (l3 + 2)) (fun j7 =>
 xo_b (F_X5_goes s1 (σ.2 1 j6) (σ.2 1 j7) σ) (fun v8 =>
 some (Sum.inl (l2 + 1, v8)))))
noncomputable def D_X5_reverse_47 (l1 : Int32) (s : Int32 × xM_S) : Option ((Int32 × xM_S) ⊕ (Int32 × xM_S)) :=
 (if l1 ≤ s.1 then
 xl_o (xo_b (F_X5_keeps s.2) (fun v4 =>
 some (((v4.2 1 5), v4)))) else
 xo_b (xa_ix 530 (230 + (3 * ((s.2.2 1 5) - 1)))) (fun j5 =>
 B_X5_reverse_110 l1 s.1 (230 + (3 * ((s.2.2 1 5) - 1))) (if ((xM_a s.2 1 5 ((s.2.2 1 5) - 1)).2 1 j5) = 1 then 2 else (if ((xM_a s.2 1 5 ((s.2.2 1 5) - 1)).2 1 j5) = 2 then 1 else ((xM_a s.2 1 5 ((s.2.2 1 5) - 1)).2 1 j5))) (xM_a s.2 1 5 ((s.2.2 1 5) - 1))))
noncomputable def L_X5_reverse_47 (l1 : Int32) (s : Int32 × xM_S) : Option (Int32 × xM_S) := xl_loop (D_X5_reverse_47 l1) s
noncomputable def B_X5_reverse_32 (l1 : Int32) (s1 : Int32) (σ : xM_S) : Option (Int32 × xM_S) :=
 xo_b (F_X5_may s1 2 σ) (fun v2 =>
 (if v2.1 = 0 then
 some ((0, v2.2)) else
 xo_b (F_X5_starts v2.2) (fun v3 =>
 L_X5_reverse_47 l1 (0, v3))))
noncomputable def F_X5_reverse (p1 : Int32) (σ : xM_S) : Option (Int32 × xM_S) :=
 xo_b (F_X5_is (F_X5_isIn p1.toInt64 1 80) σ) (fun v1 =>
 (if v1.1 = 0 then
 some ((0, v1.2)) else
 B_X5_reverse_32 p1 (if (v1.2.2 1 5) < p1 then 0 else 1) v1.2))
set_option maxHeartbeats 4000000 in
theorem K_X5_reverse {g : xm_G} (hG : xm_Gw g) {h0 : xm_H} {m : Nat} {ad : Nat → Nat} (hM : xM_ok h0 m ad) (hB : xk_B g h0) (p1 : Int32) (σ : xM_S) {o : Int32 × xM_S} (e : F_X5_reverse p1 σ = some o) {Q : xm_P} {X : xm_X} (hQ : Q (some (.int o.1)) (xMp h0 m ad o.2)) : xm_Run g M_X5_reverse 6 [.ref m, .int p1] (xMp h0 m ad σ) 0 0 Q X := by
  refine xm_Run.of pn_StringTableauModel (Nat.le_of_ble_eq_true rfl) (fun Γ hΓ => ?_)
  obtain ⟨P0, hP0, hp⟩ : ∃ P : Int32 × xM_S → Prop, (∀ o, P o → Q (some (.int o.1)) (xMp h0 m ad o.2)) ∧ P o := ⟨fun o => Q (some (.int o.1)) (xMp h0 m ad o.2), fun _ h => h, hQ⟩
  clear hQ
  show xm_W g Γ 0 [some (.ref m), some (.int p1), none, none, none] [] (xMp h0 m ad σ) 0 0
  have hL_47 : ∀ (l1 : Int32) (s : Int32 × xM_S) (o : Int32 × xM_S), L_X5_reverse_47 l1 s = some o → P0 o → xm_W g Γ 47 [some (.ref m), some (.int l1), some (.int s.1), none, none] [] (xMp h0 m ad s.2) 0 0 := by
    intro l1
    refine xl_rule (WS := fun s : Int32 × xM_S => xm_W g Γ 47 [some (.ref m), some (.int l1), some (.int s.1), none, none] [] (xMp h0 m ad s.2) 0 0) ?_
    intro s o e hp
    obtain ⟨P1, hP1, hp⟩ : ∃ P : (Int32 × xM_S) ⊕ (Int32 × xM_S) → Prop, (∀ o, P o → xl_P (fun s : Int32 × xM_S => xm_W g Γ 47 [some (.ref m), some (.int l1), some (.int s.1), none, none] [] (xMp h0 m ad s.2) 0 0) P0 o) ∧ P o := ⟨_, fun _ h => h, hp⟩
    have hB_110 : ∀ (l2 : Int32) (l3 : Int32) (s1 : Int32) (σ : xM_S) (o : (Int32 × xM_S) ⊕ (Int32 × xM_S)), B_X5_reverse_110 l1 l2 l3 s1 σ = some o → P1 o → xm_W g Γ 110 [some (.ref m), some (.int l1), some (.int l2), some (.int l3), none] [.int s1, .ref m] (xMp h0 m ad σ) 0 0 := by
      intro l2 l3 s1 σ o e hp
      unfold B_X5_reverse_110 at e
      refine xw_ald (show xm_Imp g Γ 110 (xi_ald 0 111) from xs_aload_n hΓ dX5_reverse_110) rfl ?_
      refine xw_mga (k := 1) (show xm_Imp g Γ 111 (xi_get 4 1 114) from xs_get hG hΓ (ci := 4) (kf := 1) rfl (Nat.le_of_ble_eq_true rfl) q2851 dX5_reverse_111) (fun _ => rfl) ?_
      refine xw_ild (show xm_Imp g Γ 114 (xi_ild 3 115) from xs_iload_n hΓ dX5_reverse_114) rfl ?_
      refine xw_psh (v := (.int (1))) (show xm_Imp g Γ 115 (xi_psh (.int (1)) 116) from xs_iconst hΓ dX5_reverse_115 (by decide)) ?_
      refine xw_ii (show xm_Imp g Γ 116 (xi_ii (fun x y => x + y) 117) from xs_iadd hΓ dX5_reverse_116) ?_
      obtain ⟨j6, e1, e⟩ := xo_b_s e
      refine xw_mial (k := 1) (v := (σ.2 1 j6)) (show xm_Imp g Γ 117 (xi_ial 118) from xs_ial hG hΓ dX5_reverse_117) hM (by decide) rfl e1 rfl ?_
      refine xw_ald (show xm_Imp g Γ 118 (xi_ald 0 119) from xs_aload_n hΓ dX5_reverse_118) rfl ?_
      refine xw_mga (k := 1) (show xm_Imp g Γ 119 (xi_get 4 1 122) from xs_get hG hΓ (ci := 4) (kf := 1) rfl (Nat.le_of_ble_eq_true rfl) q2851 dX5_reverse_119) (fun _ => rfl) ?_
      refine xw_ild (show xm_Imp g Γ 122 (xi_ild 3 123) from xs_iload_n hΓ dX5_reverse_122) rfl ?_
      refine xw_psh (v := (.int (2))) (show xm_Imp g Γ 123 (xi_psh (.int (2)) 124) from xs_iconst hΓ dX5_reverse_123 (by decide)) ?_
      refine xw_ii (show xm_Imp g Γ 124 (xi_ii (fun x y => x + y) 125) from xs_iadd hΓ dX5_reverse_124) ?_
      obtain ⟨j7, e1, e⟩ := xo_b_s e
      refine xw_mial (k := 1) (v := (σ.2 1 j7)) (show xm_Imp g Γ 125 (xi_ial 126) from xs_ial hG hΓ dX5_reverse_125) hM (by decide) rfl e1 rfl ?_
      obtain ⟨v8, e1, e⟩ := xo_b_s e
      refine xw_mu3 (show xm_Imp g Γ 126 (xi_vir g 4 M_X5_goes 5 3 129) from xs_invV hG hΓ k_X5_goes rfl (ci := 4) rfl q3014 q3016 qs50 dX5_reverse_126) rfl (fun Q X hQ => K_X5_goes hG hM hB s1 (σ.2 1 j6) (σ.2 1 j7) σ e1 hQ) ?_
      refine xw_inc (v := (1)) (ls' := [some (.ref m), some (.int l1), some (.int (l2 + 1)), some (.int l3), none]) (show xm_Imp g Γ 129 (xi_inc 2 (1) 132) from xs_iinc hΓ dX5_reverse_129 (by decide) (Nat.le_of_ble_eq_true rfl)) rfl rfl ?_
      refine xw_goto (show xm_Imp g Γ 132 (xi_goto 47) from xs_goto hΓ dX5_reverse_132 (by decide)) ?_
      have hq := xl_P_inl (hP1 _ (xl_fin e hp)); exact xm_lx (hq) (And.intro rfl (And.intro rfl (And.intro rfl (trivial))))
    unfold D_X5_reverse_47 at e
    refine xw_ild (show xm_Imp g Γ 47 (xi_ild 2 48) from xs_iload_n hΓ dX5_reverse_47) rfl ?_
    refine xw_ild (show xm_Imp g Γ 48 (xi_ild 1 49) from xs_iload_n hΓ dX5_reverse_48) rfl ?_
    refine xw_ic (show xm_Imp g Γ 49 (xi_ic (fun x y => y ≤ x) 135 52) from xs_icmp_ge hΓ dX5_reverse_49 (by decide)) (fun c => ?_) (fun c => ?_)
    · rw [if_pos c] at e
      obtain ⟨_, e, hp⟩ := xl_o_s e (hP1 _ hp)
      refine xw_ald (show xm_Imp g Γ 135 (xi_ald 0 136) from xs_aload_n hΓ dX5_reverse_135) rfl ?_
      obtain ⟨v4, e1, e⟩ := xo_b_s e
      refine xw_mu0 (show xm_Imp g Γ 136 (xi_vir g 4 M_X5_keeps 1 0 139) from xs_invV hG hΓ k_X5_keeps rfl (ci := 4) rfl q3052 q3054 qs58 dX5_reverse_136) rfl (fun Q X hQ => K_X5_keeps hG hM hB s.2 e1 hQ) ?_
      refine xw_ald (show xm_Imp g Γ 139 (xi_ald 0 140) from xs_aload_n hΓ dX5_reverse_139) rfl ?_
      refine xw_mga (k := 1) (show xm_Imp g Γ 140 (xi_get 4 1 143) from xs_get hG hΓ (ci := 4) (kf := 1) rfl (Nat.le_of_ble_eq_true rfl) q2851 dX5_reverse_140) (fun _ => rfl) ?_
      refine xw_psh (v := (.int (5))) (show xm_Imp g Γ 143 (xi_psh (.int (5)) 144) from xs_iconst hΓ dX5_reverse_143 (by decide)) ?_
      refine xw_mial (k := 1) (j := 5) (v := (v4.2 1 5)) (show xm_Imp g Γ 144 (xi_ial 145) from xs_ial hG hΓ dX5_reverse_144) hM (by decide) rfl rfl rfl ?_
      exact xw_iret (show xm_Imp g Γ 145 (xi_iret .int _) from xs_ireturn hΓ rfl dX5_reverse_145) (xn_int _) (hP0 _ (xl_fin e hp))
    · rw [if_neg c] at e
      refine xw_ald (show xm_Imp g Γ 52 (xi_ald 0 53) from xs_aload_n hΓ dX5_reverse_52) rfl ?_
      refine xw_mga (k := 1) (show xm_Imp g Γ 53 (xi_get 4 1 56) from xs_get hG hΓ (ci := 4) (kf := 1) rfl (Nat.le_of_ble_eq_true rfl) q2851 dX5_reverse_53) (fun _ => rfl) ?_
      refine xw_psh (v := (.int (5))) (show xm_Imp g Γ 56 (xi_psh (.int (5)) 57) from xs_iconst hΓ dX5_reverse_56 (by decide)) ?_
      refine xw_ald (show xm_Imp g Γ 57 (xi_ald 0 58) from xs_aload_n hΓ dX5_reverse_57) rfl ?_
      refine xw_mga (k := 1) (show xm_Imp g Γ 58 (xi_get 4 1 61) from xs_get hG hΓ (ci := 4) (kf := 1) rfl (Nat.le_of_ble_eq_true rfl) q2851 dX5_reverse_58) (fun _ => rfl) ?_
      refine xw_psh (v := (.int (5))) (show xm_Imp g Γ 61 (xi_psh (.int (5)) 62) from xs_iconst hΓ dX5_reverse_61 (by decide)) ?_
      refine xw_mial (k := 1) (j := 5) (v := (s.2.2 1 5)) (show xm_Imp g Γ 62 (xi_ial 63) from xs_ial hG hΓ dX5_reverse_62) hM (by decide) rfl rfl rfl ?_
      refine xw_psh (v := (.int (1))) (show xm_Imp g Γ 63 (xi_psh (.int (1)) 64) from xs_iconst hΓ dX5_reverse_63 (by decide)) ?_
      refine xw_ii (show xm_Imp g Γ 64 (xi_ii (fun x y => x - y) 65) from xs_isub hΓ dX5_reverse_64) ?_
      refine xw_mias (k := 1) (j := 5) (show xm_Imp g Γ 65 (xi_ias 66) from xs_ias hG hΓ dX5_reverse_65) hM (by decide) rfl rfl ?_
      refine xw_psh (v := (.int (230))) (show xm_Imp g Γ 66 (xi_psh (.int (230)) 69) from xs_sipush hΓ dX5_reverse_66 (by decide)) ?_
      refine xw_psh (v := (.int (3))) (show xm_Imp g Γ 69 (xi_psh (.int (3)) 70) from xs_iconst hΓ dX5_reverse_69 (by decide)) ?_
      refine xw_ald (show xm_Imp g Γ 70 (xi_ald 0 71) from xs_aload_n hΓ dX5_reverse_70) rfl ?_
      refine xw_mga (k := 1) (show xm_Imp g Γ 71 (xi_get 4 1 74) from xs_get hG hΓ (ci := 4) (kf := 1) rfl (Nat.le_of_ble_eq_true rfl) q2851 dX5_reverse_71) (fun _ => rfl) ?_
      refine xw_psh (v := (.int (5))) (show xm_Imp g Γ 74 (xi_psh (.int (5)) 75) from xs_iconst hΓ dX5_reverse_74 (by decide)) ?_
      refine xw_mial (k := 1) (j := 5) (v := (s.2.2 1 5) - 1) (show xm_Imp g Γ 75 (xi_ial 76) from xs_ial hG hΓ dX5_reverse_75) hM (by decide) rfl rfl rfl ?_
      refine xw_ii (show xm_Imp g Γ 76 (xi_ii (fun x y => x * y) 77) from xs_imul hΓ dX5_reverse_76) ?_
      refine xw_ii (show xm_Imp g Γ 77 (xi_ii (fun x y => x + y) 78) from xs_iadd hΓ dX5_reverse_77) ?_
      refine xw_ist (ls' := [some (.ref m), some (.int l1), some (.int s.1), some (.int (230 + (3 * ((s.2.2 1 5) - 1)))), none]) (show xm_Imp g Γ 78 (xi_ist 3 79) from xs_istore_n hΓ dX5_reverse_78 (Nat.le_of_ble_eq_true rfl)) rfl ?_
      refine xw_ald (show xm_Imp g Γ 79 (xi_ald 0 80) from xs_aload_n hΓ dX5_reverse_79) rfl ?_
      refine xw_mga (k := 1) (show xm_Imp g Γ 80 (xi_get 4 1 83) from xs_get hG hΓ (ci := 4) (kf := 1) rfl (Nat.le_of_ble_eq_true rfl) q2851 dX5_reverse_80) (fun _ => rfl) ?_
      refine xw_ild (show xm_Imp g Γ 83 (xi_ild 3 84) from xs_iload_n hΓ dX5_reverse_83) rfl ?_
      obtain ⟨j5, e1, e⟩ := xo_b_s e
      refine xw_mial (k := 1) (v := ((xM_a s.2 1 5 ((s.2.2 1 5) - 1)).2 1 j5)) (show xm_Imp g Γ 84 (xi_ial 85) from xs_ial hG hΓ dX5_reverse_84) hM (by decide) rfl e1 rfl ?_
      refine xw_ist (ls' := [some (.ref m), some (.int l1), some (.int s.1), some (.int (230 + (3 * ((s.2.2 1 5) - 1)))), some (.int ((xM_a s.2 1 5 ((s.2.2 1 5) - 1)).2 1 j5))]) (show xm_Imp g Γ 85 (xi_ist 4 87) from xs_istore hΓ dX5_reverse_85 (Nat.le_of_ble_eq_true rfl)) rfl ?_
      refine xw_ald (show xm_Imp g Γ 87 (xi_ald 0 88) from xs_aload_n hΓ dX5_reverse_87) rfl ?_
      refine xw_ild (show xm_Imp g Γ 88 (xi_ild 4 90) from xs_iload hΓ dX5_reverse_88) rfl ?_
      refine xw_psh (v := (.int (1))) (show xm_Imp g Γ 90 (xi_psh (.int (1)) 91) from xs_iconst hΓ dX5_reverse_90 (by decide)) ?_
      refine xw_ic (show xm_Imp g Γ 91 (xi_ic (fun x y => x = y) 94 98) from xs_icmp_ne hΓ dX5_reverse_91 (by decide)) (fun c => ?_) (fun c => ?_)
      · rw [if_pos c] at e
        refine xw_psh (v := (.int (2))) (show xm_Imp g Γ 94 (xi_psh (.int (2)) 95) from xs_iconst hΓ dX5_reverse_94 (by decide)) ?_
        refine xw_goto (show xm_Imp g Γ 95 (xi_goto 110) from xs_goto hΓ dX5_reverse_95 (by decide)) ?_
        exact xm_lx (hB_110 _ _ _ _ _ e hp) (And.intro rfl (And.intro rfl (And.intro rfl (And.intro rfl (trivial)))))
      · rw [if_neg c] at e
        refine xw_ild (show xm_Imp g Γ 98 (xi_ild 4 100) from xs_iload hΓ dX5_reverse_98) rfl ?_
        refine xw_psh (v := (.int (2))) (show xm_Imp g Γ 100 (xi_psh (.int (2)) 101) from xs_iconst hΓ dX5_reverse_100 (by decide)) ?_
        refine xw_ic (show xm_Imp g Γ 101 (xi_ic (fun x y => x = y) 104 108) from xs_icmp_ne hΓ dX5_reverse_101 (by decide)) (fun c => ?_) (fun c => ?_)
        · rw [if_pos c] at e
          refine xw_psh (v := (.int (1))) (show xm_Imp g Γ 104 (xi_psh (.int (1)) 105) from xs_iconst hΓ dX5_reverse_104 (by decide)) ?_
          refine xw_goto (show xm_Imp g Γ 105 (xi_goto 110) from xs_goto hΓ dX5_reverse_105 (by decide)) ?_
          exact xm_lx (hB_110 _ _ _ _ _ e hp) (And.intro rfl (And.intro rfl (And.intro rfl (And.intro rfl (trivial)))))
        · rw [if_neg c] at e
          refine xw_ild (show xm_Imp g Γ 108 (xi_ild 4 110) from xs_iload hΓ dX5_reverse_108) rfl ?_
          exact xm_lx (hB_110 _ _ _ _ _ e hp) (And.intro rfl (And.intro rfl (And.intro rfl (And.intro rfl (trivial)))))
  have hB_32 : ∀ (l1 : Int32) (s1 : Int32) (σ : xM_S) (o : Int32 × xM_S), B_X5_reverse_32 l1 s1 σ = some o → P0 o → xm_W g Γ 32 [some (.ref m), some (.int l1), none, none, none] [.int s1, .ref m] (xMp h0 m ad σ) 0 0 := by
    intro l1 s1 σ o e hp
    unfold B_X5_reverse_32 at e
    refine xw_psh (v := (.int (2))) (show xm_Imp g Γ 32 (xi_psh (.int (2)) 33) from xs_iconst hΓ dX5_reverse_32 (by decide)) ?_
    obtain ⟨v2, e1, e⟩ := xo_b_s e
    refine xw_mv2 (show xm_Imp g Γ 33 (xi_vir g 4 M_X5_may 1 2 36) from xs_invV hG hΓ k_X5_may rfl (ci := 4) rfl q3003 q3005 qs48 dX5_reverse_33) rfl (fun Q X hQ => K_X5_may hG hM hB s1 2 σ e1 hQ) ?_
    refine xw_if (show xm_Imp g Γ 36 (xi_if (fun x => x = 0) 39 41) from xs_if_ne hΓ dX5_reverse_36 (by decide)) (fun c => ?_) (fun c => ?_)
    · rw [if_pos c] at e
      refine xw_psh (v := (.int (0))) (show xm_Imp g Γ 39 (xi_psh (.int (0)) 40) from xs_iconst hΓ dX5_reverse_39 (by decide)) ?_
      exact xw_iret (show xm_Imp g Γ 40 (xi_iret .int _) from xs_ireturn hΓ rfl dX5_reverse_40) (xn_int _) (hP0 _ (xl_fin e hp))
    · rw [if_neg c] at e
      refine xw_ald (show xm_Imp g Γ 41 (xi_ald 0 42) from xs_aload_n hΓ dX5_reverse_41) rfl ?_
      obtain ⟨v3, e1, e⟩ := xo_b_s e
      refine xw_mu0 (show xm_Imp g Γ 42 (xi_vir g 4 M_X5_starts 2 0 45) from xs_invV hG hΓ k_X5_starts rfl (ci := 4) rfl q3007 q3009 qs49 dX5_reverse_42) rfl (fun Q X hQ => K_X5_starts hG hM hB v2.2 e1 hQ) ?_
      refine xw_psh (v := (.int (0))) (show xm_Imp g Γ 45 (xi_psh (.int (0)) 46) from xs_iconst hΓ dX5_reverse_45 (by decide)) ?_
      refine xw_ist (ls' := [some (.ref m), some (.int l1), some (.int 0), none, none]) (show xm_Imp g Γ 46 (xi_ist 2 47) from xs_istore_n hΓ dX5_reverse_46 (Nat.le_of_ble_eq_true rfl)) rfl ?_
      exact hL_47 _ _ _ e hp
  unfold F_X5_reverse at e
  refine xw_ald (show xm_Imp g Γ 0 (xi_ald 0 1) from xs_aload_n hΓ dX5_reverse_0) rfl ?_
  refine xw_ild (show xm_Imp g Γ 1 (xi_ild 1 2) from xs_iload_n hΓ dX5_reverse_1) rfl ?_
  refine xw_i2l (show xm_Imp g Γ 2 (xi_i2l 3) from xs_i2l hΓ dX5_reverse_2) ?_
  refine xw_psh (v := (.long 1)) (show xm_Imp g Γ 3 (xi_psh (.long 1) 4) from xs_lconst hΓ dX5_reverse_3 (by decide)) ?_
  refine xw_psh (v := (.long (80))) (show xm_Imp g Γ 4 (xi_psh (.long (80)) 7) from xs_ldc2 hG hΓ q3064 dX5_reverse_4) ?_
  refine xw_sv3 (show xm_Imp g Γ 7 (xi_inv g M_X5_isIn 1 3 10) from xs_invS hG hΓ k_X5_isIn rfl q2996 q2997 dX5_reverse_7) rfl (fun Q X hQ => K_X5_isIn hG p1.toInt64 1 80 rfl hQ) ?_
  obtain ⟨v1, e1, e⟩ := xo_b_s e
  refine xw_mv1 (show xm_Imp g Γ 10 (xi_vir g 4 M_X5_is 1 1 13) from xs_invV hG hΓ k_X5_is rfl (ci := 4) rfl q2986 q2988 qs46 dX5_reverse_10) rfl (fun Q X hQ => K_X5_is hG hM hB (F_X5_isIn p1.toInt64 1 80) σ e1 hQ) ?_
  refine xw_if (show xm_Imp g Γ 13 (xi_if (fun x => x = 0) 39 16) from xs_if_eq hΓ dX5_reverse_13 (by decide)) (fun c => ?_) (fun c => ?_)
  · rw [if_pos c] at e
    refine xw_psh (v := (.int (0))) (show xm_Imp g Γ 39 (xi_psh (.int (0)) 40) from xs_iconst hΓ dX5_reverse_39 (by decide)) ?_
    exact xw_iret (show xm_Imp g Γ 40 (xi_iret .int _) from xs_ireturn hΓ rfl dX5_reverse_40) (xn_int _) (hP0 _ (xl_fin e hp))
  · rw [if_neg c] at e
    refine xw_ald (show xm_Imp g Γ 16 (xi_ald 0 17) from xs_aload_n hΓ dX5_reverse_16) rfl ?_
    refine xw_ald (show xm_Imp g Γ 17 (xi_ald 0 18) from xs_aload_n hΓ dX5_reverse_17) rfl ?_
    refine xw_mga (k := 1) (show xm_Imp g Γ 18 (xi_get 4 1 21) from xs_get hG hΓ (ci := 4) (kf := 1) rfl (Nat.le_of_ble_eq_true rfl) q2851 dX5_reverse_18) (fun _ => rfl) ?_
    refine xw_psh (v := (.int (5))) (show xm_Imp g Γ 21 (xi_psh (.int (5)) 22) from xs_iconst hΓ dX5_reverse_21 (by decide)) ?_
    refine xw_mial (k := 1) (j := 5) (v := (v1.2.2 1 5)) (show xm_Imp g Γ 22 (xi_ial 23) from xs_ial hG hΓ dX5_reverse_22) hM (by decide) rfl rfl rfl ?_
    refine xw_ild (show xm_Imp g Γ 23 (xi_ild 1 24) from xs_iload_n hΓ dX5_reverse_23) rfl ?_
    refine xw_ic (show xm_Imp g Γ 24 (xi_ic (fun x y => x < y) 31 27) from xs_icmp_lt hΓ dX5_reverse_24 (by decide)) (fun c => ?_) (fun c => ?_)
    · rw [if_pos c] at e
      refine xw_psh (v := (.int (0))) (show xm_Imp g Γ 31 (xi_psh (.int (0)) 32) from xs_iconst hΓ dX5_reverse_31 (by decide)) ?_
      exact hB_32 _ _ _ _ e hp
    · rw [if_neg c] at e
      refine xw_psh (v := (.int (1))) (show xm_Imp g Γ 27 (xi_psh (.int (1)) 28) from xs_iconst hΓ dX5_reverse_27 (by decide)) ?_
      refine xw_goto (show xm_Imp g Γ 28 (xi_goto 32) from xs_goto hΓ dX5_reverse_28 (by decide)) ?_
      exact hB_32 _ _ _ _ e hp
def F_X5_sets (σ : xM_S) : Int32 :=
 1 <<< ((σ.2 1 0) &&& 31)
set_option maxHeartbeats 4000000 in
theorem K_X5_sets {g : xm_G} (hG : xm_Gw g) {h0 : xm_H} {m : Nat} {ad : Nat → Nat} (hM : xM_ok h0 m ad) (hB : xk_B g h0)  (σ : xM_S) {o : Int32} (e : F_X5_sets σ = o) {Q : xm_P} {X : xm_X} (hQ : Q (some (.int o)) (xMp h0 m ad σ)) : xm_Run g M_X5_sets 1 [.ref m] (xMp h0 m ad σ) 0 0 Q X := by
  refine xm_Run.of pn_StringTableauModel (Nat.le_of_ble_eq_true rfl) (fun Γ hΓ => ?_)
  obtain ⟨P0, hP0, hp⟩ : ∃ P : Int32 → Prop, (∀ o, P o → Q (some (.int o)) (xMp h0 m ad σ)) ∧ P o := ⟨fun o => Q (some (.int o)) (xMp h0 m ad σ), fun _ h => h, hQ⟩
  clear hQ
  show xm_W g Γ 0 [some (.ref m)] [] (xMp h0 m ad σ) 0 0
  unfold F_X5_sets at e
  refine xw_psh (v := (.int (1))) (show xm_Imp g Γ 0 (xi_psh (.int (1)) 1) from xs_iconst hΓ dX5_sets_0 (by decide)) ?_
  refine xw_ald (show xm_Imp g Γ 1 (xi_ald 0 2) from xs_aload_n hΓ dX5_sets_1) rfl ?_
  refine xw_mga (k := 1) (show xm_Imp g Γ 2 (xi_get 4 1 5) from xs_get hG hΓ (ci := 4) (kf := 1) rfl (Nat.le_of_ble_eq_true rfl) q2851 dX5_sets_2) (fun _ => rfl) ?_
  refine xw_psh (v := (.int (0))) (show xm_Imp g Γ 5 (xi_psh (.int (0)) 6) from xs_iconst hΓ dX5_sets_5 (by decide)) ?_
  refine xw_mial (k := 1) (j := 0) (v := (σ.2 1 0)) (show xm_Imp g Γ 6 (xi_ial 7) from xs_ial hG hΓ dX5_sets_6) hM (by decide) rfl rfl rfl ?_
  refine xw_ii (show xm_Imp g Γ 7 (xi_ii (fun x y => x <<< (y &&& 31)) 8) from xs_ishl hΓ dX5_sets_7) ?_
  exact xw_iret (show xm_Imp g Γ 8 (xi_iret .int _) from xs_ireturn hΓ rfl dX5_sets_8) (xn_int _) (hP0 _ (xl_finV e hp))
def B_X5_areMasks_36 (σ : xM_S) : Int32 :=
 0
def F_X5_areMasks (p1 : Int32) (p2 : Int32) (σ : xM_S) : Int32 :=
 (if (F_X5_isIn p1.toInt64 0 (((F_X5_sets σ) - 1).toInt64)) = 0 then
 B_X5_areMasks_36 σ else
 (if (F_X5_isIn p2.toInt64 0 (((F_X5_sets σ) - 1).toInt64)) = 0 then
 B_X5_areMasks_36 σ else
 1))
set_option maxHeartbeats 4000000 in
theorem K_X5_areMasks {g : xm_G} (hG : xm_Gw g) {h0 : xm_H} {m : Nat} {ad : Nat → Nat} (hM : xM_ok h0 m ad) (hB : xk_B g h0) (p1 : Int32) (p2 : Int32) (σ : xM_S) {o : Int32} (e : F_X5_areMasks p1 p2 σ = o) {Q : xm_P} {X : xm_X} (hQ : Q (some (.int o)) (xMp h0 m ad σ)) : xm_Run g M_X5_areMasks 2 [.ref m, .int p1, .int p2] (xMp h0 m ad σ) 0 0 Q X := by
  refine xm_Run.of pn_StringTableauModel (Nat.le_of_ble_eq_true rfl) (fun Γ hΓ => ?_)
  obtain ⟨P0, hP0, hp⟩ : ∃ P : Int32 → Prop, (∀ o, P o → Q (some (.int o)) (xMp h0 m ad σ)) ∧ P o := ⟨fun o => Q (some (.int o)) (xMp h0 m ad σ), fun _ h => h, hQ⟩
  clear hQ
  show xm_W g Γ 0 [some (.ref m), some (.int p1), some (.int p2)] [] (xMp h0 m ad σ) 0 0
  have hB_36 : ∀  (o : Int32), B_X5_areMasks_36 σ = o → P0 o → xm_W g Γ 36 [none, none, none] [] (xMp h0 m ad σ) 0 0 := by
    intro  o e hp
    unfold B_X5_areMasks_36 at e
    refine xw_psh (v := (.int (0))) (show xm_Imp g Γ 36 (xi_psh (.int (0)) 37) from xs_iconst hΓ dX5_areMasks_36 (by decide)) ?_
    exact xw_iret (show xm_Imp g Γ 37 (xi_iret .boolean _) from xs_ireturn hΓ rfl dX5_areMasks_37) rfl (hP0 _ (xl_finV e hp))
  unfold F_X5_areMasks at e
  refine xw_ild (show xm_Imp g Γ 0 (xi_ild 1 1) from xs_iload_n hΓ dX5_areMasks_0) rfl ?_
  refine xw_i2l (show xm_Imp g Γ 1 (xi_i2l 2) from xs_i2l hΓ dX5_areMasks_1) ?_
  refine xw_psh (v := (.long 0)) (show xm_Imp g Γ 2 (xi_psh (.long 0) 3) from xs_lconst hΓ dX5_areMasks_2 (by decide)) ?_
  refine xw_ald (show xm_Imp g Γ 3 (xi_ald 0 4) from xs_aload_n hΓ dX5_areMasks_3) rfl ?_
  refine xw_mv0 (show xm_Imp g Γ 4 (xi_vir g 4 M_X5_sets 1 0 7) from xs_invV hG hΓ k_X5_sets rfl (ci := 4) rfl q3073 q3075 qs61 dX5_areMasks_4) rfl (fun Q X hQ => K_X5_sets hG hM hB σ rfl hQ) ?_
  refine xw_psh (v := (.int (1))) (show xm_Imp g Γ 7 (xi_psh (.int (1)) 8) from xs_iconst hΓ dX5_areMasks_7 (by decide)) ?_
  refine xw_ii (show xm_Imp g Γ 8 (xi_ii (fun x y => x - y) 9) from xs_isub hΓ dX5_areMasks_8) ?_
  refine xw_i2l (show xm_Imp g Γ 9 (xi_i2l 10) from xs_i2l hΓ dX5_areMasks_9) ?_
  refine xw_sv3 (show xm_Imp g Γ 10 (xi_inv g M_X5_isIn 1 3 13) from xs_invS hG hΓ k_X5_isIn rfl q2996 q2997 dX5_areMasks_10) rfl (fun Q X hQ => K_X5_isIn hG p1.toInt64 0 (((F_X5_sets σ) - 1).toInt64) rfl hQ) ?_
  refine xw_if (show xm_Imp g Γ 13 (xi_if (fun x => x = 0) 36 16) from xs_if_eq hΓ dX5_areMasks_13 (by decide)) (fun c => ?_) (fun c => ?_)
  · rw [if_pos c] at e
    exact xm_lx (hB_36 _ e hp) (trivial)
  · rw [if_neg c] at e
    refine xw_ild (show xm_Imp g Γ 16 (xi_ild 2 17) from xs_iload_n hΓ dX5_areMasks_16) rfl ?_
    refine xw_i2l (show xm_Imp g Γ 17 (xi_i2l 18) from xs_i2l hΓ dX5_areMasks_17) ?_
    refine xw_psh (v := (.long 0)) (show xm_Imp g Γ 18 (xi_psh (.long 0) 19) from xs_lconst hΓ dX5_areMasks_18 (by decide)) ?_
    refine xw_ald (show xm_Imp g Γ 19 (xi_ald 0 20) from xs_aload_n hΓ dX5_areMasks_19) rfl ?_
    refine xw_mv0 (show xm_Imp g Γ 20 (xi_vir g 4 M_X5_sets 1 0 23) from xs_invV hG hΓ k_X5_sets rfl (ci := 4) rfl q3073 q3075 qs61 dX5_areMasks_20) rfl (fun Q X hQ => K_X5_sets hG hM hB σ rfl hQ) ?_
    refine xw_psh (v := (.int (1))) (show xm_Imp g Γ 23 (xi_psh (.int (1)) 24) from xs_iconst hΓ dX5_areMasks_23 (by decide)) ?_
    refine xw_ii (show xm_Imp g Γ 24 (xi_ii (fun x y => x - y) 25) from xs_isub hΓ dX5_areMasks_24) ?_
    refine xw_i2l (show xm_Imp g Γ 25 (xi_i2l 26) from xs_i2l hΓ dX5_areMasks_25) ?_
    refine xw_sv3 (show xm_Imp g Γ 26 (xi_inv g M_X5_isIn 1 3 29) from xs_invS hG hΓ k_X5_isIn rfl q2996 q2997 dX5_areMasks_26) rfl (fun Q X hQ => K_X5_isIn hG p2.toInt64 0 (((F_X5_sets σ) - 1).toInt64) rfl hQ) ?_
    refine xw_if (show xm_Imp g Γ 29 (xi_if (fun x => x = 0) 36 32) from xs_if_eq hΓ dX5_areMasks_29 (by decide)) (fun c => ?_) (fun c => ?_)
    · rw [if_pos c] at e
      exact xm_lx (hB_36 _ e hp) (trivial)
    · rw [if_neg c] at e
      refine xw_psh (v := (.int (1))) (show xm_Imp g Γ 32 (xi_psh (.int (1)) 33) from xs_iconst hΓ dX5_areMasks_32 (by decide)) ?_
      refine xw_goto (show xm_Imp g Γ 33 (xi_goto 37) from xs_goto hΓ dX5_areMasks_33 (by decide)) ?_
      exact xw_iret (show xm_Imp g Γ 37 (xi_iret .boolean _) from xs_ireturn hΓ rfl dX5_areMasks_37) rfl (hP0 _ (xl_finV e hp))
theorem b_X5_areMasks (p1 : Int32) (p2 : Int32) (σ : xM_S) : narrow .boolean (.int (F_X5_areMasks p1 p2 σ)) = .int (F_X5_areMasks p1 p2 σ) := by
  unfold F_X5_areMasks B_X5_areMasks_36
  (repeat' split) <;> first | with_reducible exact xb_n0 | with_reducible exact xb_n1 | with_reducible exact b_X5_isIn _ _ _
noncomputable def B_X5_doCommute_54 (l0 : Int32) (l1 : Int32) (l2 : Int32) (l3 : Int32) (l4 : Int32) (l5 : Int32) : Option ((Int32 × Int32) ⊕ (Int32)) :=
 some (Sum.inl (l4, l5 + 1))
noncomputable def D_X5_doCommute_6 (l0 : Int32) (l1 : Int32) (l2 : Int32) (l3 : Int32) (s : Int32 × Int32) : Option ((Int32 × Int32) ⊕ (Int32)) :=
 (if 8 ≤ s.2 then
 xl_o ((if (s.1 - s.1 / 2 * 2) = 0 then
 some (1) else
 some (0))) else
 B_X5_doCommute_54 l0 l1 l2 l3 (if (F_X5_letterOf l0 l1 s.2) = 0 then s.1 else (if (F_X5_letterOf l2 l3 s.2) = 0 then s.1 else (if (F_X5_letterOf l0 l1 s.2) = (F_X5_letterOf l2 l3 s.2) then s.1 else s.1 + 1))) s.2)
noncomputable def L_X5_doCommute_6 (l0 : Int32) (l1 : Int32) (l2 : Int32) (l3 : Int32) (s : Int32 × Int32) : Option (Int32) := xl_loop (D_X5_doCommute_6 l0 l1 l2 l3) s
noncomputable def F_X5_doCommute (p0 : Int32) (p1 : Int32) (p2 : Int32) (p3 : Int32) : Option (Int32) :=
 L_X5_doCommute_6 p0 p1 p2 p3 (0, 0)
set_option maxHeartbeats 4000000 in
theorem K_X5_doCommute {g : xm_G} (hG : xm_Gw g) {h : xm_H} (p0 : Int32) (p1 : Int32) (p2 : Int32) (p3 : Int32) {o : Int32} (e : F_X5_doCommute p0 p1 p2 p3 = some o) {Q : xm_P} {X : xm_X} (hQ : Q (some (.int o)) h) : xm_Run g M_X5_doCommute 3 [.int p0, .int p1, .int p2, .int p3] h 0 0 Q X := by
  refine xm_Run.of pn_StringTableauModel (Nat.le_of_ble_eq_true rfl) (fun Γ hΓ => ?_)
  obtain ⟨P0, hP0, hp⟩ : ∃ P : Int32 → Prop, (∀ o, P o → Q (some (.int o)) h) ∧ P o := ⟨fun o => Q (some (.int o)) h, fun _ h => h, hQ⟩
  clear hQ
  show xm_W g Γ 0 [some (.int p0), some (.int p1), some (.int p2), some (.int p3), none, none, none, none] [] h 0 0
  have hL_6 : ∀ (l0 : Int32) (l1 : Int32) (l2 : Int32) (l3 : Int32) (s : Int32 × Int32) (o : Int32), L_X5_doCommute_6 l0 l1 l2 l3 s = some o → P0 o → xm_W g Γ 6 [some (.int l0), some (.int l1), some (.int l2), some (.int l3), some (.int s.1), some (.int s.2), none, none] [] h 0 0 := by
    intro l0 l1 l2 l3
    refine xl_rule (WS := fun s : Int32 × Int32 => xm_W g Γ 6 [some (.int l0), some (.int l1), some (.int l2), some (.int l3), some (.int s.1), some (.int s.2), none, none] [] h 0 0) ?_
    intro s o e hp
    obtain ⟨P1, hP1, hp⟩ : ∃ P : (Int32 × Int32) ⊕ (Int32) → Prop, (∀ o, P o → xl_P (fun s : Int32 × Int32 => xm_W g Γ 6 [some (.int l0), some (.int l1), some (.int l2), some (.int l3), some (.int s.1), some (.int s.2), none, none] [] h 0 0) P0 o) ∧ P o := ⟨_, fun _ h => h, hp⟩
    have hB_54 : ∀ (l4 : Int32) (l5 : Int32) (o : (Int32 × Int32) ⊕ (Int32)), B_X5_doCommute_54 l0 l1 l2 l3 l4 l5 = some o → P1 o → xm_W g Γ 54 [some (.int l0), some (.int l1), some (.int l2), some (.int l3), some (.int l4), some (.int l5), none, none] [] h 0 0 := by
      intro l4 l5 o e hp
      unfold B_X5_doCommute_54 at e
      refine xw_inc (v := (1)) (ls' := [some (.int l0), some (.int l1), some (.int l2), some (.int l3), some (.int l4), some (.int (l5 + 1)), none, none]) (show xm_Imp g Γ 54 (xi_inc 5 (1) 57) from xs_iinc hΓ dX5_doCommute_54 (by decide) (Nat.le_of_ble_eq_true rfl)) rfl rfl ?_
      refine xw_goto (show xm_Imp g Γ 57 (xi_goto 6) from xs_goto hΓ dX5_doCommute_57 (by decide)) ?_
      have hq := xl_P_inl (hP1 _ (xl_fin e hp)); exact hq
    unfold D_X5_doCommute_6 at e
    refine xw_ild (show xm_Imp g Γ 6 (xi_ild 5 8) from xs_iload hΓ dX5_doCommute_6) rfl ?_
    refine xw_psh (v := (.int (8))) (show xm_Imp g Γ 8 (xi_psh (.int (8)) 10) from xs_bipush hΓ dX5_doCommute_8 (by decide)) ?_
    refine xw_ic (show xm_Imp g Γ 10 (xi_ic (fun x y => y ≤ x) 60 13) from xs_icmp_ge hΓ dX5_doCommute_10 (by decide)) (fun c => ?_) (fun c => ?_)
    · rw [if_pos c] at e
      obtain ⟨_, e, hp⟩ := xl_o_s e (hP1 _ hp)
      refine xw_ild (show xm_Imp g Γ 60 (xi_ild 4 62) from xs_iload hΓ dX5_doCommute_60) rfl ?_
      refine xw_psh (v := (.int (2))) (show xm_Imp g Γ 62 (xi_psh (.int (2)) 63) from xs_iconst hΓ dX5_doCommute_62 (by decide)) ?_
      refine xw_id (show xm_Imp g Γ 63 (xi_id (fun x y => x - x / y * y) 64) from xs_irem hΓ dX5_doCommute_63) (by decide) ?_
      refine xw_if (show xm_Imp g Γ 64 (xi_if (fun x => x = 0) 67 71) from xs_if_ne hΓ dX5_doCommute_64 (by decide)) (fun c => ?_) (fun c => ?_)
      · rw [if_pos c] at e
        refine xw_psh (v := (.int (1))) (show xm_Imp g Γ 67 (xi_psh (.int (1)) 68) from xs_iconst hΓ dX5_doCommute_67 (by decide)) ?_
        refine xw_goto (show xm_Imp g Γ 68 (xi_goto 72) from xs_goto hΓ dX5_doCommute_68 (by decide)) ?_
        exact xw_iret (show xm_Imp g Γ 72 (xi_iret .boolean _) from xs_ireturn hΓ rfl dX5_doCommute_72) rfl (hP0 _ (xl_fin e hp))
      · rw [if_neg c] at e
        refine xw_psh (v := (.int (0))) (show xm_Imp g Γ 71 (xi_psh (.int (0)) 72) from xs_iconst hΓ dX5_doCommute_71 (by decide)) ?_
        exact xw_iret (show xm_Imp g Γ 72 (xi_iret .boolean _) from xs_ireturn hΓ rfl dX5_doCommute_72) rfl (hP0 _ (xl_fin e hp))
    · rw [if_neg c] at e
      refine xw_ild (show xm_Imp g Γ 13 (xi_ild 0 14) from xs_iload_n hΓ dX5_doCommute_13) rfl ?_
      refine xw_ild (show xm_Imp g Γ 14 (xi_ild 1 15) from xs_iload_n hΓ dX5_doCommute_14) rfl ?_
      refine xw_ild (show xm_Imp g Γ 15 (xi_ild 5 17) from xs_iload hΓ dX5_doCommute_15) rfl ?_
      refine xw_sv3 (show xm_Imp g Γ 17 (xi_inv g M_X5_letterOf 2 3 20) from xs_invS hG hΓ k_X5_letterOf rfl q3034 q3035 dX5_doCommute_17) rfl (fun Q X hQ => K_X5_letterOf hG l0 l1 s.2 rfl hQ) ?_
      refine xw_ist (ls' := [some (.int l0), some (.int l1), some (.int l2), some (.int l3), some (.int s.1), some (.int s.2), some (.int (F_X5_letterOf l0 l1 s.2)), none]) (show xm_Imp g Γ 20 (xi_ist 6 22) from xs_istore hΓ dX5_doCommute_20 (Nat.le_of_ble_eq_true rfl)) rfl ?_
      refine xw_ild (show xm_Imp g Γ 22 (xi_ild 2 23) from xs_iload_n hΓ dX5_doCommute_22) rfl ?_
      refine xw_ild (show xm_Imp g Γ 23 (xi_ild 3 24) from xs_iload_n hΓ dX5_doCommute_23) rfl ?_
      refine xw_ild (show xm_Imp g Γ 24 (xi_ild 5 26) from xs_iload hΓ dX5_doCommute_24) rfl ?_
      refine xw_sv3 (show xm_Imp g Γ 26 (xi_inv g M_X5_letterOf 2 3 29) from xs_invS hG hΓ k_X5_letterOf rfl q3034 q3035 dX5_doCommute_26) rfl (fun Q X hQ => K_X5_letterOf hG l2 l3 s.2 rfl hQ) ?_
      refine xw_ist (ls' := [some (.int l0), some (.int l1), some (.int l2), some (.int l3), some (.int s.1), some (.int s.2), some (.int (F_X5_letterOf l0 l1 s.2)), some (.int (F_X5_letterOf l2 l3 s.2))]) (show xm_Imp g Γ 29 (xi_ist 7 31) from xs_istore hΓ dX5_doCommute_29 (Nat.le_of_ble_eq_true rfl)) rfl ?_
      refine xw_ild (show xm_Imp g Γ 31 (xi_ild 6 33) from xs_iload hΓ dX5_doCommute_31) rfl ?_
      refine xw_if (show xm_Imp g Γ 33 (xi_if (fun x => x = 0) 54 36) from xs_if_eq hΓ dX5_doCommute_33 (by decide)) (fun c => ?_) (fun c => ?_)
      · rw [if_pos c] at e
        exact xm_lx (hB_54 _ _ _ e hp) (And.intro rfl (And.intro rfl (And.intro rfl (And.intro rfl (And.intro rfl (And.intro rfl (trivial)))))))
      · rw [if_neg c] at e
        refine xw_ild (show xm_Imp g Γ 36 (xi_ild 7 38) from xs_iload hΓ dX5_doCommute_36) rfl ?_
        refine xw_if (show xm_Imp g Γ 38 (xi_if (fun x => x = 0) 54 41) from xs_if_eq hΓ dX5_doCommute_38 (by decide)) (fun c => ?_) (fun c => ?_)
        · rw [if_pos c] at e
          exact xm_lx (hB_54 _ _ _ e hp) (And.intro rfl (And.intro rfl (And.intro rfl (And.intro rfl (And.intro rfl (And.intro rfl (trivial)))))))
        · rw [if_neg c] at e
          refine xw_ild (show xm_Imp g Γ 41 (xi_ild 6 43) from xs_iload hΓ dX5_doCommute_41) rfl ?_
          refine xw_ild (show xm_Imp g Γ 43 (xi_ild 7 45) from xs_iload hΓ dX5_doCommute_43) rfl ?_
          refine xw_ic (show xm_Imp g Γ 45 (xi_ic (fun x y => x = y) 54 48) from xs_icmp_eq hΓ dX5_doCommute_45 (by decide)) (fun c => ?_) (fun c => ?_)
          · rw [if_pos c] at e
            exact xm_lx (hB_54 _ _ _ e hp) (And.intro rfl (And.intro rfl (And.intro rfl (And.intro rfl (And.intro rfl (And.intro rfl (trivial)))))))
          · rw [if_neg c] at e
            refine xw_ild (show xm_Imp g Γ 48 (xi_ild 4 50) from xs_iload hΓ dX5_doCommute_48) rfl ?_
            refine xw_psh (v := (.int (1))) (show xm_Imp g Γ 50 (xi_psh (.int (1)) 51) from xs_iconst hΓ dX5_doCommute_50 (by decide)) ?_
            refine xw_ii (show xm_Imp g Γ 51 (xi_ii (fun x y => x + y) 52) from xs_iadd hΓ dX5_doCommute_51) ?_
            refine xw_ist (ls' := [some (.int l0), some (.int l1), some (.int l2), some (.int l3), some (.int (s.1 + 1)), some (.int s.2), some (.int (F_X5_letterOf l0 l1 s.2)), some (.int (F_X5_letterOf l2 l3 s.2))]) (show xm_Imp g Γ 52 (xi_ist 4 54) from xs_istore hΓ dX5_doCommute_52 (Nat.le_of_ble_eq_true rfl)) rfl ?_
            exact xm_lx (hB_54 _ _ _ e hp) (And.intro rfl (And.intro rfl (And.intro rfl (And.intro rfl (And.intro rfl (And.intro rfl (trivial)))))))
  unfold F_X5_doCommute at e
  refine xw_psh (v := (.int (0))) (show xm_Imp g Γ 0 (xi_psh (.int (0)) 1) from xs_iconst hΓ dX5_doCommute_0 (by decide)) ?_
  refine xw_ist (ls' := [some (.int p0), some (.int p1), some (.int p2), some (.int p3), some (.int 0), none, none, none]) (show xm_Imp g Γ 1 (xi_ist 4 3) from xs_istore hΓ dX5_doCommute_1 (Nat.le_of_ble_eq_true rfl)) rfl ?_
  refine xw_psh (v := (.int (0))) (show xm_Imp g Γ 3 (xi_psh (.int (0)) 4) from xs_iconst hΓ dX5_doCommute_3 (by decide)) ?_
  refine xw_ist (ls' := [some (.int p0), some (.int p1), some (.int p2), some (.int p3), some (.int 0), some (.int 0), none, none]) (show xm_Imp g Γ 4 (xi_ist 5 6) from xs_istore hΓ dX5_doCommute_4 (Nat.le_of_ble_eq_true rfl)) rfl ?_
  exact hL_6 _ _ _ _ _ _ e hp
noncomputable def B_X5_againstOf_51 (l1 : Int32) (l2 : Int32) (l3 : Int32) (l4 : Int32) (σ : xM_S) : Option ((Int32 × Int32) ⊕ (Int32)) :=
 some (Sum.inl (l3, l4 + 1))
noncomputable def D_X5_againstOf_5 (l1 : Int32) (l2 : Int32) (σ : xM_S) (s : Int32 × Int32) : Option ((Int32 × Int32) ⊕ (Int32)) :=
 (if (σ.2 1 0) ≤ s.2 then
 xl_o (some (s.1)) else
 xo_b (xa_ix 530 (6 + s.2)) (fun j1 =>
 xo_b (xa_ix 530 (14 + s.2)) (fun j2 =>
 xo_b (F_X5_doCommute (σ.2 1 j1) (σ.2 1 j2) l1 l2) (fun v3 =>
 B_X5_againstOf_51 l1 l2 (if v3 = 0 then s.1 ||| (1 <<< (s.2 &&& 31)) else s.1) s.2 σ))))
noncomputable def L_X5_againstOf_5 (l1 : Int32) (l2 : Int32) (σ : xM_S) (s : Int32 × Int32) : Option (Int32) := xl_loop (D_X5_againstOf_5 l1 l2 σ) s
noncomputable def F_X5_againstOf (p1 : Int32) (p2 : Int32) (σ : xM_S) : Option (Int32) :=
 L_X5_againstOf_5 p1 p2 σ (0, 0)
set_option maxHeartbeats 4000000 in
theorem K_X5_againstOf {g : xm_G} (hG : xm_Gw g) {h0 : xm_H} {m : Nat} {ad : Nat → Nat} (hM : xM_ok h0 m ad) (hB : xk_B g h0) (p1 : Int32) (p2 : Int32) (σ : xM_S) {o : Int32} (e : F_X5_againstOf p1 p2 σ = some o) {Q : xm_P} {X : xm_X} (hQ : Q (some (.int o)) (xMp h0 m ad σ)) : xm_Run g M_X5_againstOf 4 [.ref m, .int p1, .int p2] (xMp h0 m ad σ) 0 0 Q X := by
  refine xm_Run.of pn_StringTableauModel (Nat.le_of_ble_eq_true rfl) (fun Γ hΓ => ?_)
  obtain ⟨P0, hP0, hp⟩ : ∃ P : Int32 → Prop, (∀ o, P o → Q (some (.int o)) (xMp h0 m ad σ)) ∧ P o := ⟨fun o => Q (some (.int o)) (xMp h0 m ad σ), fun _ h => h, hQ⟩
  clear hQ
  show xm_W g Γ 0 [some (.ref m), some (.int p1), some (.int p2), none, none] [] (xMp h0 m ad σ) 0 0
  have hL_5 : ∀ (l1 : Int32) (l2 : Int32) (s : Int32 × Int32) (o : Int32), L_X5_againstOf_5 l1 l2 σ s = some o → P0 o → xm_W g Γ 5 [some (.ref m), some (.int l1), some (.int l2), some (.int s.1), some (.int s.2)] [] (xMp h0 m ad σ) 0 0 := by
    intro l1 l2
    refine xl_rule (WS := fun s : Int32 × Int32 => xm_W g Γ 5 [some (.ref m), some (.int l1), some (.int l2), some (.int s.1), some (.int s.2)] [] (xMp h0 m ad σ) 0 0) ?_
    intro s o e hp
    obtain ⟨P1, hP1, hp⟩ : ∃ P : (Int32 × Int32) ⊕ (Int32) → Prop, (∀ o, P o → xl_P (fun s : Int32 × Int32 => xm_W g Γ 5 [some (.ref m), some (.int l1), some (.int l2), some (.int s.1), some (.int s.2)] [] (xMp h0 m ad σ) 0 0) P0 o) ∧ P o := ⟨_, fun _ h => h, hp⟩
    have hB_51 : ∀ (l3 : Int32) (l4 : Int32) (o : (Int32 × Int32) ⊕ (Int32)), B_X5_againstOf_51 l1 l2 l3 l4 σ = some o → P1 o → xm_W g Γ 51 [some (.ref m), some (.int l1), some (.int l2), some (.int l3), some (.int l4)] [] (xMp h0 m ad σ) 0 0 := by
      intro l3 l4 o e hp
      unfold B_X5_againstOf_51 at e
      refine xw_inc (v := (1)) (ls' := [some (.ref m), some (.int l1), some (.int l2), some (.int l3), some (.int (l4 + 1))]) (show xm_Imp g Γ 51 (xi_inc 4 (1) 54) from xs_iinc hΓ dX5_againstOf_51 (by decide) (Nat.le_of_ble_eq_true rfl)) rfl rfl ?_
      refine xw_goto (show xm_Imp g Γ 54 (xi_goto 5) from xs_goto hΓ dX5_againstOf_54 (by decide)) ?_
      have hq := xl_P_inl (hP1 _ (xl_fin e hp)); exact hq
    unfold D_X5_againstOf_5 at e
    refine xw_ild (show xm_Imp g Γ 5 (xi_ild 4 7) from xs_iload hΓ dX5_againstOf_5) rfl ?_
    refine xw_ald (show xm_Imp g Γ 7 (xi_ald 0 8) from xs_aload_n hΓ dX5_againstOf_7) rfl ?_
    refine xw_mga (k := 1) (show xm_Imp g Γ 8 (xi_get 4 1 11) from xs_get hG hΓ (ci := 4) (kf := 1) rfl (Nat.le_of_ble_eq_true rfl) q2851 dX5_againstOf_8) (fun _ => rfl) ?_
    refine xw_psh (v := (.int (0))) (show xm_Imp g Γ 11 (xi_psh (.int (0)) 12) from xs_iconst hΓ dX5_againstOf_11 (by decide)) ?_
    refine xw_mial (k := 1) (j := 0) (v := (σ.2 1 0)) (show xm_Imp g Γ 12 (xi_ial 13) from xs_ial hG hΓ dX5_againstOf_12) hM (by decide) rfl rfl rfl ?_
    refine xw_ic (show xm_Imp g Γ 13 (xi_ic (fun x y => y ≤ x) 57 16) from xs_icmp_ge hΓ dX5_againstOf_13 (by decide)) (fun c => ?_) (fun c => ?_)
    · rw [if_pos c] at e
      obtain ⟨_, e, hp⟩ := xl_o_s e (hP1 _ hp)
      refine xw_ild (show xm_Imp g Γ 57 (xi_ild 3 58) from xs_iload_n hΓ dX5_againstOf_57) rfl ?_
      exact xw_iret (show xm_Imp g Γ 58 (xi_iret .int _) from xs_ireturn hΓ rfl dX5_againstOf_58) (xn_int _) (hP0 _ (xl_fin e hp))
    · rw [if_neg c] at e
      refine xw_ald (show xm_Imp g Γ 16 (xi_ald 0 17) from xs_aload_n hΓ dX5_againstOf_16) rfl ?_
      refine xw_mga (k := 1) (show xm_Imp g Γ 17 (xi_get 4 1 20) from xs_get hG hΓ (ci := 4) (kf := 1) rfl (Nat.le_of_ble_eq_true rfl) q2851 dX5_againstOf_17) (fun _ => rfl) ?_
      refine xw_psh (v := (.int (6))) (show xm_Imp g Γ 20 (xi_psh (.int (6)) 22) from xs_bipush hΓ dX5_againstOf_20 (by decide)) ?_
      refine xw_ild (show xm_Imp g Γ 22 (xi_ild 4 24) from xs_iload hΓ dX5_againstOf_22) rfl ?_
      refine xw_ii (show xm_Imp g Γ 24 (xi_ii (fun x y => x + y) 25) from xs_iadd hΓ dX5_againstOf_24) ?_
      obtain ⟨j1, e1, e⟩ := xo_b_s e
      refine xw_mial (k := 1) (v := (σ.2 1 j1)) (show xm_Imp g Γ 25 (xi_ial 26) from xs_ial hG hΓ dX5_againstOf_25) hM (by decide) rfl e1 rfl ?_
      refine xw_ald (show xm_Imp g Γ 26 (xi_ald 0 27) from xs_aload_n hΓ dX5_againstOf_26) rfl ?_
      refine xw_mga (k := 1) (show xm_Imp g Γ 27 (xi_get 4 1 30) from xs_get hG hΓ (ci := 4) (kf := 1) rfl (Nat.le_of_ble_eq_true rfl) q2851 dX5_againstOf_27) (fun _ => rfl) ?_
      refine xw_psh (v := (.int (14))) (show xm_Imp g Γ 30 (xi_psh (.int (14)) 32) from xs_bipush hΓ dX5_againstOf_30 (by decide)) ?_
      refine xw_ild (show xm_Imp g Γ 32 (xi_ild 4 34) from xs_iload hΓ dX5_againstOf_32) rfl ?_
      refine xw_ii (show xm_Imp g Γ 34 (xi_ii (fun x y => x + y) 35) from xs_iadd hΓ dX5_againstOf_34) ?_
      obtain ⟨j2, e1, e⟩ := xo_b_s e
      refine xw_mial (k := 1) (v := (σ.2 1 j2)) (show xm_Imp g Γ 35 (xi_ial 36) from xs_ial hG hΓ dX5_againstOf_35) hM (by decide) rfl e1 rfl ?_
      refine xw_ild (show xm_Imp g Γ 36 (xi_ild 1 37) from xs_iload_n hΓ dX5_againstOf_36) rfl ?_
      refine xw_ild (show xm_Imp g Γ 37 (xi_ild 2 38) from xs_iload_n hΓ dX5_againstOf_37) rfl ?_
      obtain ⟨v3, e1, e⟩ := xo_b_s e
      refine xw_sv4 (show xm_Imp g Γ 38 (xi_inv g M_X5_doCommute 3 4 41) from xs_invS hG hΓ k_X5_doCommute rfl q3090 q3091 dX5_againstOf_38) rfl (fun Q X hQ => K_X5_doCommute hG (σ.2 1 j1) (σ.2 1 j2) l1 l2 e1 hQ) ?_
      refine xw_if (show xm_Imp g Γ 41 (xi_if (fun x => x = 0) 44 51) from xs_if_ne hΓ dX5_againstOf_41 (by decide)) (fun c => ?_) (fun c => ?_)
      · rw [if_pos c] at e
        refine xw_ild (show xm_Imp g Γ 44 (xi_ild 3 45) from xs_iload_n hΓ dX5_againstOf_44) rfl ?_
        refine xw_psh (v := (.int (1))) (show xm_Imp g Γ 45 (xi_psh (.int (1)) 46) from xs_iconst hΓ dX5_againstOf_45 (by decide)) ?_
        refine xw_ild (show xm_Imp g Γ 46 (xi_ild 4 48) from xs_iload hΓ dX5_againstOf_46) rfl ?_
        refine xw_ii (show xm_Imp g Γ 48 (xi_ii (fun x y => x <<< (y &&& 31)) 49) from xs_ishl hΓ dX5_againstOf_48) ?_
        refine xw_ii (show xm_Imp g Γ 49 (xi_ii (fun x y => x ||| y) 50) from xs_ior hΓ dX5_againstOf_49) ?_
        refine xw_ist (ls' := [some (.ref m), some (.int l1), some (.int l2), some (.int (s.1 ||| (1 <<< (s.2 &&& 31)))), some (.int s.2)]) (show xm_Imp g Γ 50 (xi_ist 3 51) from xs_istore_n hΓ dX5_againstOf_50 (Nat.le_of_ble_eq_true rfl)) rfl ?_
        exact hB_51 _ _ _ e hp
      · rw [if_neg c] at e
        exact hB_51 _ _ _ e hp
  unfold F_X5_againstOf at e
  refine xw_psh (v := (.int (0))) (show xm_Imp g Γ 0 (xi_psh (.int (0)) 1) from xs_iconst hΓ dX5_againstOf_0 (by decide)) ?_
  refine xw_ist (ls' := [some (.ref m), some (.int p1), some (.int p2), some (.int 0), none]) (show xm_Imp g Γ 1 (xi_ist 3 2) from xs_istore_n hΓ dX5_againstOf_1 (Nat.le_of_ble_eq_true rfl)) rfl ?_
  refine xw_psh (v := (.int (0))) (show xm_Imp g Γ 2 (xi_psh (.int (0)) 3) from xs_iconst hΓ dX5_againstOf_2 (by decide)) ?_
  refine xw_ist (ls' := [some (.ref m), some (.int p1), some (.int p2), some (.int 0), some (.int 0)]) (show xm_Imp g Γ 3 (xi_ist 4 5) from xs_istore hΓ dX5_againstOf_3 (Nat.le_of_ble_eq_true rfl)) rfl ?_
  exact hL_5 _ _ _ _ e hp
noncomputable def B_X5_phaseOf_72 (l0 : Int32) (l1 : Int32) (l2 : Int32) (l3 : Int32) (l4 : Int32) (l5 : Int32) : Option ((Int32 × Int32) ⊕ (Int32)) :=
 some (Sum.inl (l4, l5 + 1))
noncomputable def D_X5_phaseOf_6 (l0 : Int32) (l1 : Int32) (l2 : Int32) (l3 : Int32) (s : Int32 × Int32) : Option ((Int32 × Int32) ⊕ (Int32)) :=
 (if 8 ≤ s.2 then
 xl_o (some (s.1 - s.1 / 4 * 4)) else
 B_X5_phaseOf_72 l0 l1 l2 l3 (if (F_X5_letterOf l0 l1 s.2) = 0 then s.1 else (if (F_X5_letterOf l2 l3 s.2) = 0 then s.1 else (if (F_X5_letterOf l0 l1 s.2) = (F_X5_letterOf l2 l3 s.2) then s.1 else (if (F_X5_letterOf l2 l3 s.2) = (((F_X5_letterOf l0 l1 s.2) - (F_X5_letterOf l0 l1 s.2) / 3 * 3) + 1) then s.1 + 1 else s.1 + 3)))) s.2)
noncomputable def L_X5_phaseOf_6 (l0 : Int32) (l1 : Int32) (l2 : Int32) (l3 : Int32) (s : Int32 × Int32) : Option (Int32) := xl_loop (D_X5_phaseOf_6 l0 l1 l2 l3) s
noncomputable def F_X5_phaseOf (p0 : Int32) (p1 : Int32) (p2 : Int32) (p3 : Int32) : Option (Int32) :=
 L_X5_phaseOf_6 p0 p1 p2 p3 (0, 0)
set_option maxHeartbeats 4000000 in
theorem K_X5_phaseOf {g : xm_G} (hG : xm_Gw g) {h : xm_H} (p0 : Int32) (p1 : Int32) (p2 : Int32) (p3 : Int32) {o : Int32} (e : F_X5_phaseOf p0 p1 p2 p3 = some o) {Q : xm_P} {X : xm_X} (hQ : Q (some (.int o)) h) : xm_Run g M_X5_phaseOf 3 [.int p0, .int p1, .int p2, .int p3] h 0 0 Q X := by
  refine xm_Run.of pn_StringTableauModel (Nat.le_of_ble_eq_true rfl) (fun Γ hΓ => ?_)
  obtain ⟨P0, hP0, hp⟩ : ∃ P : Int32 → Prop, (∀ o, P o → Q (some (.int o)) h) ∧ P o := ⟨fun o => Q (some (.int o)) h, fun _ h => h, hQ⟩
  clear hQ
  show xm_W g Γ 0 [some (.int p0), some (.int p1), some (.int p2), some (.int p3), none, none, none, none] [] h 0 0
  have hL_6 : ∀ (l0 : Int32) (l1 : Int32) (l2 : Int32) (l3 : Int32) (s : Int32 × Int32) (o : Int32), L_X5_phaseOf_6 l0 l1 l2 l3 s = some o → P0 o → xm_W g Γ 6 [some (.int l0), some (.int l1), some (.int l2), some (.int l3), some (.int s.1), some (.int s.2), none, none] [] h 0 0 := by
    intro l0 l1 l2 l3
    refine xl_rule (WS := fun s : Int32 × Int32 => xm_W g Γ 6 [some (.int l0), some (.int l1), some (.int l2), some (.int l3), some (.int s.1), some (.int s.2), none, none] [] h 0 0) ?_
    intro s o e hp
    obtain ⟨P1, hP1, hp⟩ : ∃ P : (Int32 × Int32) ⊕ (Int32) → Prop, (∀ o, P o → xl_P (fun s : Int32 × Int32 => xm_W g Γ 6 [some (.int l0), some (.int l1), some (.int l2), some (.int l3), some (.int s.1), some (.int s.2), none, none] [] h 0 0) P0 o) ∧ P o := ⟨_, fun _ h => h, hp⟩
    have hB_72 : ∀ (l4 : Int32) (l5 : Int32) (o : (Int32 × Int32) ⊕ (Int32)), B_X5_phaseOf_72 l0 l1 l2 l3 l4 l5 = some o → P1 o → xm_W g Γ 72 [some (.int l0), some (.int l1), some (.int l2), some (.int l3), some (.int l4), some (.int l5), none, none] [] h 0 0 := by
      intro l4 l5 o e hp
      unfold B_X5_phaseOf_72 at e
      refine xw_inc (v := (1)) (ls' := [some (.int l0), some (.int l1), some (.int l2), some (.int l3), some (.int l4), some (.int (l5 + 1)), none, none]) (show xm_Imp g Γ 72 (xi_inc 5 (1) 75) from xs_iinc hΓ dX5_phaseOf_72 (by decide) (Nat.le_of_ble_eq_true rfl)) rfl rfl ?_
      refine xw_goto (show xm_Imp g Γ 75 (xi_goto 6) from xs_goto hΓ dX5_phaseOf_75 (by decide)) ?_
      have hq := xl_P_inl (hP1 _ (xl_fin e hp)); exact hq
    unfold D_X5_phaseOf_6 at e
    refine xw_ild (show xm_Imp g Γ 6 (xi_ild 5 8) from xs_iload hΓ dX5_phaseOf_6) rfl ?_
    refine xw_psh (v := (.int (8))) (show xm_Imp g Γ 8 (xi_psh (.int (8)) 10) from xs_bipush hΓ dX5_phaseOf_8 (by decide)) ?_
    refine xw_ic (show xm_Imp g Γ 10 (xi_ic (fun x y => y ≤ x) 78 13) from xs_icmp_ge hΓ dX5_phaseOf_10 (by decide)) (fun c => ?_) (fun c => ?_)
    · rw [if_pos c] at e
      obtain ⟨_, e, hp⟩ := xl_o_s e (hP1 _ hp)
      refine xw_ild (show xm_Imp g Γ 78 (xi_ild 4 80) from xs_iload hΓ dX5_phaseOf_78) rfl ?_
      refine xw_psh (v := (.int (4))) (show xm_Imp g Γ 80 (xi_psh (.int (4)) 81) from xs_iconst hΓ dX5_phaseOf_80 (by decide)) ?_
      refine xw_id (show xm_Imp g Γ 81 (xi_id (fun x y => x - x / y * y) 82) from xs_irem hΓ dX5_phaseOf_81) (by decide) ?_
      exact xw_iret (show xm_Imp g Γ 82 (xi_iret .int _) from xs_ireturn hΓ rfl dX5_phaseOf_82) (xn_int _) (hP0 _ (xl_fin e hp))
    · rw [if_neg c] at e
      refine xw_ild (show xm_Imp g Γ 13 (xi_ild 0 14) from xs_iload_n hΓ dX5_phaseOf_13) rfl ?_
      refine xw_ild (show xm_Imp g Γ 14 (xi_ild 1 15) from xs_iload_n hΓ dX5_phaseOf_14) rfl ?_
      refine xw_ild (show xm_Imp g Γ 15 (xi_ild 5 17) from xs_iload hΓ dX5_phaseOf_15) rfl ?_
      refine xw_sv3 (show xm_Imp g Γ 17 (xi_inv g M_X5_letterOf 2 3 20) from xs_invS hG hΓ k_X5_letterOf rfl q3034 q3035 dX5_phaseOf_17) rfl (fun Q X hQ => K_X5_letterOf hG l0 l1 s.2 rfl hQ) ?_
      refine xw_ist (ls' := [some (.int l0), some (.int l1), some (.int l2), some (.int l3), some (.int s.1), some (.int s.2), some (.int (F_X5_letterOf l0 l1 s.2)), none]) (show xm_Imp g Γ 20 (xi_ist 6 22) from xs_istore hΓ dX5_phaseOf_20 (Nat.le_of_ble_eq_true rfl)) rfl ?_
      refine xw_ild (show xm_Imp g Γ 22 (xi_ild 2 23) from xs_iload_n hΓ dX5_phaseOf_22) rfl ?_
      refine xw_ild (show xm_Imp g Γ 23 (xi_ild 3 24) from xs_iload_n hΓ dX5_phaseOf_23) rfl ?_
      refine xw_ild (show xm_Imp g Γ 24 (xi_ild 5 26) from xs_iload hΓ dX5_phaseOf_24) rfl ?_
      refine xw_sv3 (show xm_Imp g Γ 26 (xi_inv g M_X5_letterOf 2 3 29) from xs_invS hG hΓ k_X5_letterOf rfl q3034 q3035 dX5_phaseOf_26) rfl (fun Q X hQ => K_X5_letterOf hG l2 l3 s.2 rfl hQ) ?_
      refine xw_ist (ls' := [some (.int l0), some (.int l1), some (.int l2), some (.int l3), some (.int s.1), some (.int s.2), some (.int (F_X5_letterOf l0 l1 s.2)), some (.int (F_X5_letterOf l2 l3 s.2))]) (show xm_Imp g Γ 29 (xi_ist 7 31) from xs_istore hΓ dX5_phaseOf_29 (Nat.le_of_ble_eq_true rfl)) rfl ?_
      refine xw_ild (show xm_Imp g Γ 31 (xi_ild 6 33) from xs_iload hΓ dX5_phaseOf_31) rfl ?_
      refine xw_if (show xm_Imp g Γ 33 (xi_if (fun x => x = 0) 72 36) from xs_if_eq hΓ dX5_phaseOf_33 (by decide)) (fun c => ?_) (fun c => ?_)
      · rw [if_pos c] at e
        exact xm_lx (hB_72 _ _ _ e hp) (And.intro rfl (And.intro rfl (And.intro rfl (And.intro rfl (And.intro rfl (And.intro rfl (trivial)))))))
      · rw [if_neg c] at e
        refine xw_ild (show xm_Imp g Γ 36 (xi_ild 7 38) from xs_iload hΓ dX5_phaseOf_36) rfl ?_
        refine xw_if (show xm_Imp g Γ 38 (xi_if (fun x => x = 0) 72 41) from xs_if_eq hΓ dX5_phaseOf_38 (by decide)) (fun c => ?_) (fun c => ?_)
        · rw [if_pos c] at e
          exact xm_lx (hB_72 _ _ _ e hp) (And.intro rfl (And.intro rfl (And.intro rfl (And.intro rfl (And.intro rfl (And.intro rfl (trivial)))))))
        · rw [if_neg c] at e
          refine xw_ild (show xm_Imp g Γ 41 (xi_ild 6 43) from xs_iload hΓ dX5_phaseOf_41) rfl ?_
          refine xw_ild (show xm_Imp g Γ 43 (xi_ild 7 45) from xs_iload hΓ dX5_phaseOf_43) rfl ?_
          refine xw_ic (show xm_Imp g Γ 45 (xi_ic (fun x y => x = y) 48 51) from xs_icmp_ne hΓ dX5_phaseOf_45 (by decide)) (fun c => ?_) (fun c => ?_)
          · rw [if_pos c] at e
            refine xw_goto (show xm_Imp g Γ 48 (xi_goto 72) from xs_goto hΓ dX5_phaseOf_48 (by decide)) ?_
            exact xm_lx (hB_72 _ _ _ e hp) (And.intro rfl (And.intro rfl (And.intro rfl (And.intro rfl (And.intro rfl (And.intro rfl (trivial)))))))
          · rw [if_neg c] at e
            refine xw_ild (show xm_Imp g Γ 51 (xi_ild 4 53) from xs_iload hΓ dX5_phaseOf_51) rfl ?_
            refine xw_ild (show xm_Imp g Γ 53 (xi_ild 7 55) from xs_iload hΓ dX5_phaseOf_53) rfl ?_
            refine xw_ild (show xm_Imp g Γ 55 (xi_ild 6 57) from xs_iload hΓ dX5_phaseOf_55) rfl ?_
            refine xw_psh (v := (.int (3))) (show xm_Imp g Γ 57 (xi_psh (.int (3)) 58) from xs_iconst hΓ dX5_phaseOf_57 (by decide)) ?_
            refine xw_id (show xm_Imp g Γ 58 (xi_id (fun x y => x - x / y * y) 59) from xs_irem hΓ dX5_phaseOf_58) (by decide) ?_
            refine xw_psh (v := (.int (1))) (show xm_Imp g Γ 59 (xi_psh (.int (1)) 60) from xs_iconst hΓ dX5_phaseOf_59 (by decide)) ?_
            refine xw_ii (show xm_Imp g Γ 60 (xi_ii (fun x y => x + y) 61) from xs_iadd hΓ dX5_phaseOf_60) ?_
            refine xw_ic (show xm_Imp g Γ 61 (xi_ic (fun x y => x = y) 64 68) from xs_icmp_ne hΓ dX5_phaseOf_61 (by decide)) (fun c => ?_) (fun c => ?_)
            · rw [if_pos c] at e
              refine xw_psh (v := (.int (1))) (show xm_Imp g Γ 64 (xi_psh (.int (1)) 65) from xs_iconst hΓ dX5_phaseOf_64 (by decide)) ?_
              refine xw_goto (show xm_Imp g Γ 65 (xi_goto 69) from xs_goto hΓ dX5_phaseOf_65 (by decide)) ?_
              refine xw_ii (show xm_Imp g Γ 69 (xi_ii (fun x y => x + y) 70) from xs_iadd hΓ dX5_phaseOf_69) ?_
              refine xw_ist (ls' := [some (.int l0), some (.int l1), some (.int l2), some (.int l3), some (.int (s.1 + 1)), some (.int s.2), some (.int (F_X5_letterOf l0 l1 s.2)), some (.int (F_X5_letterOf l2 l3 s.2))]) (show xm_Imp g Γ 70 (xi_ist 4 72) from xs_istore hΓ dX5_phaseOf_70 (Nat.le_of_ble_eq_true rfl)) rfl ?_
              exact xm_lx (hB_72 _ _ _ e hp) (And.intro rfl (And.intro rfl (And.intro rfl (And.intro rfl (And.intro rfl (And.intro rfl (trivial)))))))
            · rw [if_neg c] at e
              refine xw_psh (v := (.int (3))) (show xm_Imp g Γ 68 (xi_psh (.int (3)) 69) from xs_iconst hΓ dX5_phaseOf_68 (by decide)) ?_
              refine xw_ii (show xm_Imp g Γ 69 (xi_ii (fun x y => x + y) 70) from xs_iadd hΓ dX5_phaseOf_69) ?_
              refine xw_ist (ls' := [some (.int l0), some (.int l1), some (.int l2), some (.int l3), some (.int (s.1 + 3)), some (.int s.2), some (.int (F_X5_letterOf l0 l1 s.2)), some (.int (F_X5_letterOf l2 l3 s.2))]) (show xm_Imp g Γ 70 (xi_ist 4 72) from xs_istore hΓ dX5_phaseOf_70 (Nat.le_of_ble_eq_true rfl)) rfl ?_
              exact xm_lx (hB_72 _ _ _ e hp) (And.intro rfl (And.intro rfl (And.intro rfl (And.intro rfl (And.intro rfl (And.intro rfl (trivial)))))))
  unfold F_X5_phaseOf at e
  refine xw_psh (v := (.int (0))) (show xm_Imp g Γ 0 (xi_psh (.int (0)) 1) from xs_iconst hΓ dX5_phaseOf_0 (by decide)) ?_
  refine xw_ist (ls' := [some (.int p0), some (.int p1), some (.int p2), some (.int p3), some (.int 0), none, none, none]) (show xm_Imp g Γ 1 (xi_ist 4 3) from xs_istore hΓ dX5_phaseOf_1 (Nat.le_of_ble_eq_true rfl)) rfl ?_
  refine xw_psh (v := (.int (0))) (show xm_Imp g Γ 3 (xi_psh (.int (0)) 4) from xs_iconst hΓ dX5_phaseOf_3 (by decide)) ?_
  refine xw_ist (ls' := [some (.int p0), some (.int p1), some (.int p2), some (.int p3), some (.int 0), some (.int 0), none, none]) (show xm_Imp g Γ 4 (xi_ist 5 6) from xs_istore hΓ dX5_phaseOf_4 (Nat.le_of_ble_eq_true rfl)) rfl ?_
  exact hL_6 _ _ _ _ _ _ e hp
noncomputable def B_X5_times_45 (s1 : Int32) (s2 : Int32) (s3 : Int32) (s4 : Int32) (σ : xM_S) : Option (xM_S) :=
 some (F_X5_takes s1 s2 (s3 ^^^ s4) σ)
noncomputable def F_X5_times (p1 : Int32) (p2 : Int32) (p3 : Int32) (σ : xM_S) : Option (xM_S) :=
 xo_b (F_X5_phaseOf (σ.1 6) (σ.1 7) p1 p2) (fun v1 =>
 B_X5_times_45 ((σ.1 6) ^^^ p1) ((σ.1 7) ^^^ p2) ((σ.1 8) ^^^ p3) (if v1 = 2 then 1 else 0) σ)
set_option maxHeartbeats 4000000 in
theorem K_X5_times {g : xm_G} (hG : xm_Gw g) {h0 : xm_H} {m : Nat} {ad : Nat → Nat} (hM : xM_ok h0 m ad) (hB : xk_B g h0) (p1 : Int32) (p2 : Int32) (p3 : Int32) (σ : xM_S) {o : xM_S} (e : F_X5_times p1 p2 p3 σ = some o) {Q : xm_P} {X : xm_X} (hQ : Q none (xMp h0 m ad o)) : xm_Run g M_X5_times 4 [.ref m, .int p1, .int p2, .int p3] (xMp h0 m ad σ) 0 0 Q X := by
  refine xm_Run.of pn_StringTableauModel (Nat.le_of_ble_eq_true rfl) (fun Γ hΓ => ?_)
  obtain ⟨P0, hP0, hp⟩ : ∃ P : xM_S → Prop, (∀ o, P o → Q none (xMp h0 m ad o)) ∧ P o := ⟨fun o => Q none (xMp h0 m ad o), fun _ h => h, hQ⟩
  clear hQ
  show xm_W g Γ 0 [some (.ref m), some (.int p1), some (.int p2), some (.int p3), none] [] (xMp h0 m ad σ) 0 0
  have hB_45 : ∀ (s1 : Int32) (s2 : Int32) (s3 : Int32) (s4 : Int32) (σ : xM_S) (o : xM_S), B_X5_times_45 s1 s2 s3 s4 σ = some o → P0 o → xm_W g Γ 45 [none, none, none, none, none] [.int s4, .int s3, .int s2, .int s1, .ref m] (xMp h0 m ad σ) 0 0 := by
    intro s1 s2 s3 s4 σ o e hp
    unfold B_X5_times_45 at e
    refine xw_ii (show xm_Imp g Γ 45 (xi_ii (fun x y => x ^^^ y) 46) from xs_ixor hΓ dX5_times_45) ?_
    refine xw_mu3 (show xm_Imp g Γ 46 (xi_vir g 4 M_X5_takes 1 3 49) from xs_invV hG hΓ k_X5_takes rfl (ci := 4) rfl q3022 q3024 qs52 dX5_times_46) rfl (fun Q X hQ => K_X5_takes hG hM hB s1 s2 (s3 ^^^ s4) σ rfl hQ) ?_
    exact xw_vret (show xm_Imp g Γ 49 (xi_vret _) from xs_return hΓ rfl dX5_times_49) (hP0 _ (xl_fin e hp))
  unfold F_X5_times at e
  refine xw_ald (show xm_Imp g Γ 0 (xi_ald 0 1) from xs_aload_n hΓ dX5_times_0) rfl ?_
  refine xw_mgi (v := (σ.1 6)) (show xm_Imp g Γ 1 (xi_get 4 6 4) from xs_get hG hΓ (ci := 4) (kf := 6) rfl (Nat.le_of_ble_eq_true rfl) q2856 dX5_times_1) (fun _ => rfl) rfl ?_
  refine xw_ald (show xm_Imp g Γ 4 (xi_ald 0 5) from xs_aload_n hΓ dX5_times_4) rfl ?_
  refine xw_mgi (v := (σ.1 7)) (show xm_Imp g Γ 5 (xi_get 4 7 8) from xs_get hG hΓ (ci := 4) (kf := 7) rfl (Nat.le_of_ble_eq_true rfl) q2857 dX5_times_5) (fun _ => rfl) rfl ?_
  refine xw_ild (show xm_Imp g Γ 8 (xi_ild 1 9) from xs_iload_n hΓ dX5_times_8) rfl ?_
  refine xw_ild (show xm_Imp g Γ 9 (xi_ild 2 10) from xs_iload_n hΓ dX5_times_9) rfl ?_
  obtain ⟨v1, e1, e⟩ := xo_b_s e
  refine xw_sv4 (show xm_Imp g Γ 10 (xi_inv g M_X5_phaseOf 3 4 13) from xs_invS hG hΓ k_X5_phaseOf rfl q3105 q3106 dX5_times_10) rfl (fun Q X hQ => K_X5_phaseOf hG (σ.1 6) (σ.1 7) p1 p2 e1 hQ) ?_
  refine xw_ist (ls' := [some (.ref m), some (.int p1), some (.int p2), some (.int p3), some (.int v1)]) (show xm_Imp g Γ 13 (xi_ist 4 15) from xs_istore hΓ dX5_times_13 (Nat.le_of_ble_eq_true rfl)) rfl ?_
  refine xw_ald (show xm_Imp g Γ 15 (xi_ald 0 16) from xs_aload_n hΓ dX5_times_15) rfl ?_
  refine xw_ald (show xm_Imp g Γ 16 (xi_ald 0 17) from xs_aload_n hΓ dX5_times_16) rfl ?_
  refine xw_mgi (v := (σ.1 6)) (show xm_Imp g Γ 17 (xi_get 4 6 20) from xs_get hG hΓ (ci := 4) (kf := 6) rfl (Nat.le_of_ble_eq_true rfl) q2856 dX5_times_17) (fun _ => rfl) rfl ?_
  refine xw_ild (show xm_Imp g Γ 20 (xi_ild 1 21) from xs_iload_n hΓ dX5_times_20) rfl ?_
  refine xw_ii (show xm_Imp g Γ 21 (xi_ii (fun x y => x ^^^ y) 22) from xs_ixor hΓ dX5_times_21) ?_
  refine xw_ald (show xm_Imp g Γ 22 (xi_ald 0 23) from xs_aload_n hΓ dX5_times_22) rfl ?_
  refine xw_mgi (v := (σ.1 7)) (show xm_Imp g Γ 23 (xi_get 4 7 26) from xs_get hG hΓ (ci := 4) (kf := 7) rfl (Nat.le_of_ble_eq_true rfl) q2857 dX5_times_23) (fun _ => rfl) rfl ?_
  refine xw_ild (show xm_Imp g Γ 26 (xi_ild 2 27) from xs_iload_n hΓ dX5_times_26) rfl ?_
  refine xw_ii (show xm_Imp g Γ 27 (xi_ii (fun x y => x ^^^ y) 28) from xs_ixor hΓ dX5_times_27) ?_
  refine xw_ald (show xm_Imp g Γ 28 (xi_ald 0 29) from xs_aload_n hΓ dX5_times_28) rfl ?_
  refine xw_mgi (v := (σ.1 8)) (show xm_Imp g Γ 29 (xi_get 4 8 32) from xs_get hG hΓ (ci := 4) (kf := 8) rfl (Nat.le_of_ble_eq_true rfl) q2858 dX5_times_29) (fun _ => rfl) rfl ?_
  refine xw_ild (show xm_Imp g Γ 32 (xi_ild 3 33) from xs_iload_n hΓ dX5_times_32) rfl ?_
  refine xw_ii (show xm_Imp g Γ 33 (xi_ii (fun x y => x ^^^ y) 34) from xs_ixor hΓ dX5_times_33) ?_
  refine xw_ild (show xm_Imp g Γ 34 (xi_ild 4 36) from xs_iload hΓ dX5_times_34) rfl ?_
  refine xw_psh (v := (.int (2))) (show xm_Imp g Γ 36 (xi_psh (.int (2)) 37) from xs_iconst hΓ dX5_times_36 (by decide)) ?_
  refine xw_ic (show xm_Imp g Γ 37 (xi_ic (fun x y => x = y) 40 44) from xs_icmp_ne hΓ dX5_times_37 (by decide)) (fun c => ?_) (fun c => ?_)
  · rw [if_pos c] at e
    refine xw_psh (v := (.int (1))) (show xm_Imp g Γ 40 (xi_psh (.int (1)) 41) from xs_iconst hΓ dX5_times_40 (by decide)) ?_
    refine xw_goto (show xm_Imp g Γ 41 (xi_goto 45) from xs_goto hΓ dX5_times_41 (by decide)) ?_
    exact xm_lx (hB_45 _ _ _ _ _ _ e hp) (trivial)
  · rw [if_neg c] at e
    refine xw_psh (v := (.int (0))) (show xm_Imp g Γ 44 (xi_psh (.int (0)) 45) from xs_iconst hΓ dX5_times_44 (by decide)) ?_
    exact xm_lx (hB_45 _ _ _ _ _ _ e hp) (trivial)
noncomputable def B_X5_takesElement_58 (l1 : Int32) (l2 : Int32) (σ : xM_S) : Option ((Int32 × xM_S) ⊕ (xM_S)) :=
 some (Sum.inl (l2 + 1, σ))
noncomputable def D_X5_takesElement_9 (l1 : Int32) (s : Int32 × xM_S) : Option ((Int32 × xM_S) ⊕ (xM_S)) :=
 (if (s.2.2 1 0) ≤ s.1 then
 xl_o (some s.2) else
 (if (F_X5_has l1 s.1) = 0 then
 B_X5_takesElement_58 l1 s.1 s.2 else
 xo_b (xa_ix 530 (6 + s.1)) (fun j1 =>
 xo_b (xa_ix 530 (14 + s.1)) (fun j2 =>
 xo_b (xa_ix 530 (22 + s.1)) (fun j3 =>
 xo_b (F_X5_times (s.2.2 1 j1) (s.2.2 1 j2) (s.2.2 1 j3) s.2) (fun v4 =>
 B_X5_takesElement_58 l1 s.1 v4))))))
noncomputable def L_X5_takesElement_9 (l1 : Int32) (s : Int32 × xM_S) : Option (xM_S) := xl_loop (D_X5_takesElement_9 l1) s
noncomputable def F_X5_takesElement (p1 : Int32) (σ : xM_S) : Option (xM_S) :=
 L_X5_takesElement_9 p1 (0, (F_X5_takes 0 0 0 σ))
set_option maxHeartbeats 4000000 in
theorem K_X5_takesElement {g : xm_G} (hG : xm_Gw g) {h0 : xm_H} {m : Nat} {ad : Nat → Nat} (hM : xM_ok h0 m ad) (hB : xk_B g h0) (p1 : Int32) (σ : xM_S) {o : xM_S} (e : F_X5_takesElement p1 σ = some o) {Q : xm_P} {X : xm_X} (hQ : Q none (xMp h0 m ad o)) : xm_Run g M_X5_takesElement 5 [.ref m, .int p1] (xMp h0 m ad σ) 0 0 Q X := by
  refine xm_Run.of pn_StringTableauModel (Nat.le_of_ble_eq_true rfl) (fun Γ hΓ => ?_)
  obtain ⟨P0, hP0, hp⟩ : ∃ P : xM_S → Prop, (∀ o, P o → Q none (xMp h0 m ad o)) ∧ P o := ⟨fun o => Q none (xMp h0 m ad o), fun _ h => h, hQ⟩
  clear hQ
  show xm_W g Γ 0 [some (.ref m), some (.int p1), none] [] (xMp h0 m ad σ) 0 0
  have hL_9 : ∀ (l1 : Int32) (s : Int32 × xM_S) (o : xM_S), L_X5_takesElement_9 l1 s = some o → P0 o → xm_W g Γ 9 [some (.ref m), some (.int l1), some (.int s.1)] [] (xMp h0 m ad s.2) 0 0 := by
    intro l1
    refine xl_rule (WS := fun s : Int32 × xM_S => xm_W g Γ 9 [some (.ref m), some (.int l1), some (.int s.1)] [] (xMp h0 m ad s.2) 0 0) ?_
    intro s o e hp
    obtain ⟨P1, hP1, hp⟩ : ∃ P : (Int32 × xM_S) ⊕ (xM_S) → Prop, (∀ o, P o → xl_P (fun s : Int32 × xM_S => xm_W g Γ 9 [some (.ref m), some (.int l1), some (.int s.1)] [] (xMp h0 m ad s.2) 0 0) P0 o) ∧ P o := ⟨_, fun _ h => h, hp⟩
    have hB_58 : ∀ (l2 : Int32) (σ : xM_S) (o : (Int32 × xM_S) ⊕ (xM_S)), B_X5_takesElement_58 l1 l2 σ = some o → P1 o → xm_W g Γ 58 [some (.ref m), some (.int l1), some (.int l2)] [] (xMp h0 m ad σ) 0 0 := by
      intro l2 σ o e hp
      unfold B_X5_takesElement_58 at e
      refine xw_inc (v := (1)) (ls' := [some (.ref m), some (.int l1), some (.int (l2 + 1))]) (show xm_Imp g Γ 58 (xi_inc 2 (1) 61) from xs_iinc hΓ dX5_takesElement_58 (by decide) (Nat.le_of_ble_eq_true rfl)) rfl rfl ?_
      refine xw_goto (show xm_Imp g Γ 61 (xi_goto 9) from xs_goto hΓ dX5_takesElement_61 (by decide)) ?_
      have hq := xl_P_inl (hP1 _ (xl_fin e hp)); exact hq
    unfold D_X5_takesElement_9 at e
    refine xw_ild (show xm_Imp g Γ 9 (xi_ild 2 10) from xs_iload_n hΓ dX5_takesElement_9) rfl ?_
    refine xw_ald (show xm_Imp g Γ 10 (xi_ald 0 11) from xs_aload_n hΓ dX5_takesElement_10) rfl ?_
    refine xw_mga (k := 1) (show xm_Imp g Γ 11 (xi_get 4 1 14) from xs_get hG hΓ (ci := 4) (kf := 1) rfl (Nat.le_of_ble_eq_true rfl) q2851 dX5_takesElement_11) (fun _ => rfl) ?_
    refine xw_psh (v := (.int (0))) (show xm_Imp g Γ 14 (xi_psh (.int (0)) 15) from xs_iconst hΓ dX5_takesElement_14 (by decide)) ?_
    refine xw_mial (k := 1) (j := 0) (v := (s.2.2 1 0)) (show xm_Imp g Γ 15 (xi_ial 16) from xs_ial hG hΓ dX5_takesElement_15) hM (by decide) rfl rfl rfl ?_
    refine xw_ic (show xm_Imp g Γ 16 (xi_ic (fun x y => y ≤ x) 64 19) from xs_icmp_ge hΓ dX5_takesElement_16 (by decide)) (fun c => ?_) (fun c => ?_)
    · rw [if_pos c] at e
      obtain ⟨_, e, hp⟩ := xl_o_s e (hP1 _ hp)
      exact xw_vret (show xm_Imp g Γ 64 (xi_vret _) from xs_return hΓ rfl dX5_takesElement_64) (hP0 _ (xl_fin e hp))
    · rw [if_neg c] at e
      refine xw_ild (show xm_Imp g Γ 19 (xi_ild 1 20) from xs_iload_n hΓ dX5_takesElement_19) rfl ?_
      refine xw_ild (show xm_Imp g Γ 20 (xi_ild 2 21) from xs_iload_n hΓ dX5_takesElement_20) rfl ?_
      refine xw_sv2 (show xm_Imp g Γ 21 (xi_inv g M_X5_has 1 2 24) from xs_invS hG hΓ k_X5_has rfl q3037 q3038 dX5_takesElement_21) rfl (fun Q X hQ => K_X5_has hG l1 s.1 rfl hQ) ?_
      refine xw_if (show xm_Imp g Γ 24 (xi_if (fun x => x = 0) 58 27) from xs_if_eq hΓ dX5_takesElement_24 (by decide)) (fun c => ?_) (fun c => ?_)
      · rw [if_pos c] at e
        exact hB_58 _ _ _ e hp
      · rw [if_neg c] at e
        refine xw_ald (show xm_Imp g Γ 27 (xi_ald 0 28) from xs_aload_n hΓ dX5_takesElement_27) rfl ?_
        refine xw_ald (show xm_Imp g Γ 28 (xi_ald 0 29) from xs_aload_n hΓ dX5_takesElement_28) rfl ?_
        refine xw_mga (k := 1) (show xm_Imp g Γ 29 (xi_get 4 1 32) from xs_get hG hΓ (ci := 4) (kf := 1) rfl (Nat.le_of_ble_eq_true rfl) q2851 dX5_takesElement_29) (fun _ => rfl) ?_
        refine xw_psh (v := (.int (6))) (show xm_Imp g Γ 32 (xi_psh (.int (6)) 34) from xs_bipush hΓ dX5_takesElement_32 (by decide)) ?_
        refine xw_ild (show xm_Imp g Γ 34 (xi_ild 2 35) from xs_iload_n hΓ dX5_takesElement_34) rfl ?_
        refine xw_ii (show xm_Imp g Γ 35 (xi_ii (fun x y => x + y) 36) from xs_iadd hΓ dX5_takesElement_35) ?_
        obtain ⟨j1, e1, e⟩ := xo_b_s e
        refine xw_mial (k := 1) (v := (s.2.2 1 j1)) (show xm_Imp g Γ 36 (xi_ial 37) from xs_ial hG hΓ dX5_takesElement_36) hM (by decide) rfl e1 rfl ?_
        refine xw_ald (show xm_Imp g Γ 37 (xi_ald 0 38) from xs_aload_n hΓ dX5_takesElement_37) rfl ?_
        refine xw_mga (k := 1) (show xm_Imp g Γ 38 (xi_get 4 1 41) from xs_get hG hΓ (ci := 4) (kf := 1) rfl (Nat.le_of_ble_eq_true rfl) q2851 dX5_takesElement_38) (fun _ => rfl) ?_
        refine xw_psh (v := (.int (14))) (show xm_Imp g Γ 41 (xi_psh (.int (14)) 43) from xs_bipush hΓ dX5_takesElement_41 (by decide)) ?_
        refine xw_ild (show xm_Imp g Γ 43 (xi_ild 2 44) from xs_iload_n hΓ dX5_takesElement_43) rfl ?_
        refine xw_ii (show xm_Imp g Γ 44 (xi_ii (fun x y => x + y) 45) from xs_iadd hΓ dX5_takesElement_44) ?_
        obtain ⟨j2, e1, e⟩ := xo_b_s e
        refine xw_mial (k := 1) (v := (s.2.2 1 j2)) (show xm_Imp g Γ 45 (xi_ial 46) from xs_ial hG hΓ dX5_takesElement_45) hM (by decide) rfl e1 rfl ?_
        refine xw_ald (show xm_Imp g Γ 46 (xi_ald 0 47) from xs_aload_n hΓ dX5_takesElement_46) rfl ?_
        refine xw_mga (k := 1) (show xm_Imp g Γ 47 (xi_get 4 1 50) from xs_get hG hΓ (ci := 4) (kf := 1) rfl (Nat.le_of_ble_eq_true rfl) q2851 dX5_takesElement_47) (fun _ => rfl) ?_
        refine xw_psh (v := (.int (22))) (show xm_Imp g Γ 50 (xi_psh (.int (22)) 52) from xs_bipush hΓ dX5_takesElement_50 (by decide)) ?_
        refine xw_ild (show xm_Imp g Γ 52 (xi_ild 2 53) from xs_iload_n hΓ dX5_takesElement_52) rfl ?_
        refine xw_ii (show xm_Imp g Γ 53 (xi_ii (fun x y => x + y) 54) from xs_iadd hΓ dX5_takesElement_53) ?_
        obtain ⟨j3, e1, e⟩ := xo_b_s e
        refine xw_mial (k := 1) (v := (s.2.2 1 j3)) (show xm_Imp g Γ 54 (xi_ial 55) from xs_ial hG hΓ dX5_takesElement_54) hM (by decide) rfl e1 rfl ?_
        obtain ⟨v4, e1, e⟩ := xo_b_s e
        refine xw_mu3 (show xm_Imp g Γ 55 (xi_vir g 4 M_X5_times 4 3 58) from xs_invV hG hΓ k_X5_times rfl (ci := 4) rfl q3101 q3103 qs67 dX5_takesElement_55) rfl (fun Q X hQ => K_X5_times hG hM hB (s.2.2 1 j1) (s.2.2 1 j2) (s.2.2 1 j3) s.2 e1 hQ) ?_
        exact hB_58 _ _ _ e hp
  unfold F_X5_takesElement at e
  refine xw_ald (show xm_Imp g Γ 0 (xi_ald 0 1) from xs_aload_n hΓ dX5_takesElement_0) rfl ?_
  refine xw_psh (v := (.int (0))) (show xm_Imp g Γ 1 (xi_psh (.int (0)) 2) from xs_iconst hΓ dX5_takesElement_1 (by decide)) ?_
  refine xw_psh (v := (.int (0))) (show xm_Imp g Γ 2 (xi_psh (.int (0)) 3) from xs_iconst hΓ dX5_takesElement_2 (by decide)) ?_
  refine xw_psh (v := (.int (0))) (show xm_Imp g Γ 3 (xi_psh (.int (0)) 4) from xs_iconst hΓ dX5_takesElement_3 (by decide)) ?_
  refine xw_mu3 (show xm_Imp g Γ 4 (xi_vir g 4 M_X5_takes 1 3 7) from xs_invV hG hΓ k_X5_takes rfl (ci := 4) rfl q3022 q3024 qs52 dX5_takesElement_4) rfl (fun Q X hQ => K_X5_takes hG hM hB 0 0 0 σ rfl hQ) ?_
  refine xw_psh (v := (.int (0))) (show xm_Imp g Γ 7 (xi_psh (.int (0)) 8) from xs_iconst hΓ dX5_takesElement_7 (by decide)) ?_
  refine xw_ist (ls' := [some (.ref m), some (.int p1), some (.int 0)]) (show xm_Imp g Γ 8 (xi_ist 2 9) from xs_istore_n hΓ dX5_takesElement_8 (Nat.le_of_ble_eq_true rfl)) rfl ?_
  exact hL_9 _ _ _ e hp
noncomputable def B_X5_setOf_33 (l1 : Int32) (l2 : Int32) (l3 : Int32) (σ : xM_S) : Option ((Int32 × xM_S) ⊕ (Int32 × xM_S)) :=
 some (Sum.inl (l3 + 1, σ))
noncomputable def D_X5_setOf_2 (l1 : Int32) (l2 : Int32) (s : Int32 × xM_S) : Option ((Int32 × xM_S) ⊕ (Int32 × xM_S)) :=
 (if (F_X5_sets s.2) ≤ s.1 then
 xl_o (some (((-1), s.2))) else
 xo_b (F_X5_takesElement s.1 s.2) (fun v1 =>
 (if (v1.1 6) = l1 then
 (if (v1.1 7) = l2 then
 xl_o (some ((s.1, v1))) else
 B_X5_setOf_33 l1 l2 s.1 v1) else
 B_X5_setOf_33 l1 l2 s.1 v1)))
noncomputable def L_X5_setOf_2 (l1 : Int32) (l2 : Int32) (s : Int32 × xM_S) : Option (Int32 × xM_S) := xl_loop (D_X5_setOf_2 l1 l2) s
noncomputable def F_X5_setOf (p1 : Int32) (p2 : Int32) (σ : xM_S) : Option (Int32 × xM_S) :=
 L_X5_setOf_2 p1 p2 (0, σ)
set_option maxHeartbeats 4000000 in
theorem K_X5_setOf {g : xm_G} (hG : xm_Gw g) {h0 : xm_H} {m : Nat} {ad : Nat → Nat} (hM : xM_ok h0 m ad) (hB : xk_B g h0) (p1 : Int32) (p2 : Int32) (σ : xM_S) {o : Int32 × xM_S} (e : F_X5_setOf p1 p2 σ = some o) {Q : xm_P} {X : xm_X} (hQ : Q (some (.int o.1)) (xMp h0 m ad o.2)) : xm_Run g M_X5_setOf 6 [.ref m, .int p1, .int p2] (xMp h0 m ad σ) 0 0 Q X := by
  refine xm_Run.of pn_StringTableauModel (Nat.le_of_ble_eq_true rfl) (fun Γ hΓ => ?_)
  obtain ⟨P0, hP0, hp⟩ : ∃ P : Int32 × xM_S → Prop, (∀ o, P o → Q (some (.int o.1)) (xMp h0 m ad o.2)) ∧ P o := ⟨fun o => Q (some (.int o.1)) (xMp h0 m ad o.2), fun _ h => h, hQ⟩
  clear hQ
  show xm_W g Γ 0 [some (.ref m), some (.int p1), some (.int p2), none] [] (xMp h0 m ad σ) 0 0
  have hL_2 : ∀ (l1 : Int32) (l2 : Int32) (s : Int32 × xM_S) (o : Int32 × xM_S), L_X5_setOf_2 l1 l2 s = some o → P0 o → xm_W g Γ 2 [some (.ref m), some (.int l1), some (.int l2), some (.int s.1)] [] (xMp h0 m ad s.2) 0 0 := by
    intro l1 l2
    refine xl_rule (WS := fun s : Int32 × xM_S => xm_W g Γ 2 [some (.ref m), some (.int l1), some (.int l2), some (.int s.1)] [] (xMp h0 m ad s.2) 0 0) ?_
    intro s o e hp
    obtain ⟨P1, hP1, hp⟩ : ∃ P : (Int32 × xM_S) ⊕ (Int32 × xM_S) → Prop, (∀ o, P o → xl_P (fun s : Int32 × xM_S => xm_W g Γ 2 [some (.ref m), some (.int l1), some (.int l2), some (.int s.1)] [] (xMp h0 m ad s.2) 0 0) P0 o) ∧ P o := ⟨_, fun _ h => h, hp⟩
    have hB_33 : ∀ (l3 : Int32) (σ : xM_S) (o : (Int32 × xM_S) ⊕ (Int32 × xM_S)), B_X5_setOf_33 l1 l2 l3 σ = some o → P1 o → xm_W g Γ 33 [some (.ref m), some (.int l1), some (.int l2), some (.int l3)] [] (xMp h0 m ad σ) 0 0 := by
      intro l3 σ o e hp
      unfold B_X5_setOf_33 at e
      refine xw_inc (v := (1)) (ls' := [some (.ref m), some (.int l1), some (.int l2), some (.int (l3 + 1))]) (show xm_Imp g Γ 33 (xi_inc 3 (1) 36) from xs_iinc hΓ dX5_setOf_33 (by decide) (Nat.le_of_ble_eq_true rfl)) rfl rfl ?_
      refine xw_goto (show xm_Imp g Γ 36 (xi_goto 2) from xs_goto hΓ dX5_setOf_36 (by decide)) ?_
      have hq := xl_P_inl (hP1 _ (xl_fin e hp)); exact hq
    unfold D_X5_setOf_2 at e
    refine xw_ild (show xm_Imp g Γ 2 (xi_ild 3 3) from xs_iload_n hΓ dX5_setOf_2) rfl ?_
    refine xw_ald (show xm_Imp g Γ 3 (xi_ald 0 4) from xs_aload_n hΓ dX5_setOf_3) rfl ?_
    refine xw_mv0 (show xm_Imp g Γ 4 (xi_vir g 4 M_X5_sets 1 0 7) from xs_invV hG hΓ k_X5_sets rfl (ci := 4) rfl q3073 q3075 qs61 dX5_setOf_4) rfl (fun Q X hQ => K_X5_sets hG hM hB s.2 rfl hQ) ?_
    refine xw_ic (show xm_Imp g Γ 7 (xi_ic (fun x y => y ≤ x) 39 10) from xs_icmp_ge hΓ dX5_setOf_7 (by decide)) (fun c => ?_) (fun c => ?_)
    · rw [if_pos c] at e
      obtain ⟨_, e, hp⟩ := xl_o_s e (hP1 _ hp)
      refine xw_psh (v := (.int (-1))) (show xm_Imp g Γ 39 (xi_psh (.int (-1)) 40) from xs_iconst hΓ dX5_setOf_39 (by decide)) ?_
      exact xw_iret (show xm_Imp g Γ 40 (xi_iret .int _) from xs_ireturn hΓ rfl dX5_setOf_40) (xn_int _) (hP0 _ (xl_fin e hp))
    · rw [if_neg c] at e
      refine xw_ald (show xm_Imp g Γ 10 (xi_ald 0 11) from xs_aload_n hΓ dX5_setOf_10) rfl ?_
      refine xw_ild (show xm_Imp g Γ 11 (xi_ild 3 12) from xs_iload_n hΓ dX5_setOf_11) rfl ?_
      obtain ⟨v1, e1, e⟩ := xo_b_s e
      refine xw_mu1 (show xm_Imp g Γ 12 (xi_vir g 4 M_X5_takesElement 5 1 15) from xs_invV hG hΓ k_X5_takesElement rfl (ci := 4) rfl q3097 q3099 qs66 dX5_setOf_12) rfl (fun Q X hQ => K_X5_takesElement hG hM hB s.1 s.2 e1 hQ) ?_
      refine xw_ald (show xm_Imp g Γ 15 (xi_ald 0 16) from xs_aload_n hΓ dX5_setOf_15) rfl ?_
      refine xw_mgi (v := (v1.1 6)) (show xm_Imp g Γ 16 (xi_get 4 6 19) from xs_get hG hΓ (ci := 4) (kf := 6) rfl (Nat.le_of_ble_eq_true rfl) q2856 dX5_setOf_16) (fun _ => rfl) rfl ?_
      refine xw_ild (show xm_Imp g Γ 19 (xi_ild 1 20) from xs_iload_n hΓ dX5_setOf_19) rfl ?_
      refine xw_ic (show xm_Imp g Γ 20 (xi_ic (fun x y => x = y) 23 33) from xs_icmp_ne hΓ dX5_setOf_20 (by decide)) (fun c => ?_) (fun c => ?_)
      · rw [if_pos c] at e
        refine xw_ald (show xm_Imp g Γ 23 (xi_ald 0 24) from xs_aload_n hΓ dX5_setOf_23) rfl ?_
        refine xw_mgi (v := (v1.1 7)) (show xm_Imp g Γ 24 (xi_get 4 7 27) from xs_get hG hΓ (ci := 4) (kf := 7) rfl (Nat.le_of_ble_eq_true rfl) q2857 dX5_setOf_24) (fun _ => rfl) rfl ?_
        refine xw_ild (show xm_Imp g Γ 27 (xi_ild 2 28) from xs_iload_n hΓ dX5_setOf_27) rfl ?_
        refine xw_ic (show xm_Imp g Γ 28 (xi_ic (fun x y => x = y) 31 33) from xs_icmp_ne hΓ dX5_setOf_28 (by decide)) (fun c => ?_) (fun c => ?_)
        · rw [if_pos c] at e
          obtain ⟨_, e, hp⟩ := xl_o_s e (hP1 _ hp)
          refine xw_ild (show xm_Imp g Γ 31 (xi_ild 3 32) from xs_iload_n hΓ dX5_setOf_31) rfl ?_
          exact xw_iret (show xm_Imp g Γ 32 (xi_iret .int _) from xs_ireturn hΓ rfl dX5_setOf_32) (xn_int _) (hP0 _ (xl_fin e hp))
        · rw [if_neg c] at e
          exact hB_33 _ _ _ e hp
      · rw [if_neg c] at e
        exact hB_33 _ _ _ e hp
  unfold F_X5_setOf at e
  refine xw_psh (v := (.int (0))) (show xm_Imp g Γ 0 (xi_psh (.int (0)) 1) from xs_iconst hΓ dX5_setOf_0 (by decide)) ?_
  refine xw_ist (ls' := [some (.ref m), some (.int p1), some (.int p2), some (.int 0)]) (show xm_Imp g Γ 1 (xi_ist 3 2) from xs_istore_n hΓ dX5_setOf_1 (Nat.le_of_ble_eq_true rfl)) rfl ?_
  exact hL_2 _ _ _ _ e hp
noncomputable def F_X5_determined (p1 : Int32) (p2 : Int32) (p3 : Int32) (σ : xM_S) : Option (Int32 × xM_S) :=
 xo_b (F_X5_againstOf p1 p2 σ) (fun v1 =>
 (if v1 = 0 then
 xo_b (F_X5_setOf p1 p2 σ) (fun v2 =>
 (if v2.1 = (-1) then
 some ((0, v2.2)) else
 (if (v2.2.1 8) = p3 then
 some ((1, v2.2)) else
 some (((-1), v2.2))))) else
 some ((0, σ))))
set_option maxHeartbeats 4000000 in
theorem K_X5_determined {g : xm_G} (hG : xm_Gw g) {h0 : xm_H} {m : Nat} {ad : Nat → Nat} (hM : xM_ok h0 m ad) (hB : xk_B g h0) (p1 : Int32) (p2 : Int32) (p3 : Int32) (σ : xM_S) {o : Int32 × xM_S} (e : F_X5_determined p1 p2 p3 σ = some o) {Q : xm_P} {X : xm_X} (hQ : Q (some (.int o.1)) (xMp h0 m ad o.2)) : xm_Run g M_X5_determined 7 [.ref m, .int p1, .int p2, .int p3] (xMp h0 m ad σ) 0 0 Q X := by
  refine xm_Run.of pn_StringTableauModel (Nat.le_of_ble_eq_true rfl) (fun Γ hΓ => ?_)
  obtain ⟨P0, hP0, hp⟩ : ∃ P : Int32 × xM_S → Prop, (∀ o, P o → Q (some (.int o.1)) (xMp h0 m ad o.2)) ∧ P o := ⟨fun o => Q (some (.int o.1)) (xMp h0 m ad o.2), fun _ h => h, hQ⟩
  clear hQ
  show xm_W g Γ 0 [some (.ref m), some (.int p1), some (.int p2), some (.int p3), none] [] (xMp h0 m ad σ) 0 0
  unfold F_X5_determined at e
  refine xw_ald (show xm_Imp g Γ 0 (xi_ald 0 1) from xs_aload_n hΓ dX5_determined_0) rfl ?_
  refine xw_ild (show xm_Imp g Γ 1 (xi_ild 1 2) from xs_iload_n hΓ dX5_determined_1) rfl ?_
  refine xw_ild (show xm_Imp g Γ 2 (xi_ild 2 3) from xs_iload_n hΓ dX5_determined_2) rfl ?_
  obtain ⟨v1, e1, e⟩ := xo_b_s e
  refine xw_mv2 (show xm_Imp g Γ 3 (xi_vir g 4 M_X5_againstOf 4 2 6) from xs_invV hG hΓ k_X5_againstOf rfl (ci := 4) rfl q3086 q3088 qs64 dX5_determined_3) rfl (fun Q X hQ => K_X5_againstOf hG hM hB p1 p2 σ e1 hQ) ?_
  refine xw_if (show xm_Imp g Γ 6 (xi_if (fun x => x = 0) 11 9) from xs_if_eq hΓ dX5_determined_6 (by decide)) (fun c => ?_) (fun c => ?_)
  · rw [if_pos c] at e
    refine xw_ald (show xm_Imp g Γ 11 (xi_ald 0 12) from xs_aload_n hΓ dX5_determined_11) rfl ?_
    refine xw_ild (show xm_Imp g Γ 12 (xi_ild 1 13) from xs_iload_n hΓ dX5_determined_12) rfl ?_
    refine xw_ild (show xm_Imp g Γ 13 (xi_ild 2 14) from xs_iload_n hΓ dX5_determined_13) rfl ?_
    obtain ⟨v2, e1, e⟩ := xo_b_s e
    refine xw_mv2 (show xm_Imp g Γ 14 (xi_vir g 4 M_X5_setOf 6 2 17) from xs_invV hG hΓ k_X5_setOf rfl (ci := 4) rfl q3093 q3095 qs65 dX5_determined_14) rfl (fun Q X hQ => K_X5_setOf hG hM hB p1 p2 σ e1 hQ) ?_
    refine xw_ist (ls' := [some (.ref m), some (.int p1), some (.int p2), some (.int p3), some (.int v2.1)]) (show xm_Imp g Γ 17 (xi_ist 4 19) from xs_istore hΓ dX5_determined_17 (Nat.le_of_ble_eq_true rfl)) rfl ?_
    refine xw_ild (show xm_Imp g Γ 19 (xi_ild 4 21) from xs_iload hΓ dX5_determined_19) rfl ?_
    refine xw_psh (v := (.int (-1))) (show xm_Imp g Γ 21 (xi_psh (.int (-1)) 22) from xs_iconst hΓ dX5_determined_21 (by decide)) ?_
    refine xw_ic (show xm_Imp g Γ 22 (xi_ic (fun x y => x = y) 25 29) from xs_icmp_ne hΓ dX5_determined_22 (by decide)) (fun c => ?_) (fun c => ?_)
    · rw [if_pos c] at e
      refine xw_psh (v := (.int (0))) (show xm_Imp g Γ 25 (xi_psh (.int (0)) 26) from xs_iconst hΓ dX5_determined_25 (by decide)) ?_
      refine xw_goto (show xm_Imp g Γ 26 (xi_goto 42) from xs_goto hΓ dX5_determined_26 (by decide)) ?_
      exact xw_iret (show xm_Imp g Γ 42 (xi_iret .int _) from xs_ireturn hΓ rfl dX5_determined_42) (xn_int _) (hP0 _ (xl_fin e hp))
    · rw [if_neg c] at e
      refine xw_ald (show xm_Imp g Γ 29 (xi_ald 0 30) from xs_aload_n hΓ dX5_determined_29) rfl ?_
      refine xw_mgi (v := (v2.2.1 8)) (show xm_Imp g Γ 30 (xi_get 4 8 33) from xs_get hG hΓ (ci := 4) (kf := 8) rfl (Nat.le_of_ble_eq_true rfl) q2858 dX5_determined_30) (fun _ => rfl) rfl ?_
      refine xw_ild (show xm_Imp g Γ 33 (xi_ild 3 34) from xs_iload_n hΓ dX5_determined_33) rfl ?_
      refine xw_ic (show xm_Imp g Γ 34 (xi_ic (fun x y => x = y) 37 41) from xs_icmp_ne hΓ dX5_determined_34 (by decide)) (fun c => ?_) (fun c => ?_)
      · rw [if_pos c] at e
        refine xw_psh (v := (.int (1))) (show xm_Imp g Γ 37 (xi_psh (.int (1)) 38) from xs_iconst hΓ dX5_determined_37 (by decide)) ?_
        refine xw_goto (show xm_Imp g Γ 38 (xi_goto 42) from xs_goto hΓ dX5_determined_38 (by decide)) ?_
        exact xw_iret (show xm_Imp g Γ 42 (xi_iret .int _) from xs_ireturn hΓ rfl dX5_determined_42) (xn_int _) (hP0 _ (xl_fin e hp))
      · rw [if_neg c] at e
        refine xw_psh (v := (.int (-1))) (show xm_Imp g Γ 41 (xi_psh (.int (-1)) 42) from xs_iconst hΓ dX5_determined_41 (by decide)) ?_
        exact xw_iret (show xm_Imp g Γ 42 (xi_iret .int _) from xs_ireturn hΓ rfl dX5_determined_42) (xn_int _) (hP0 _ (xl_fin e hp))
  · rw [if_neg c] at e
    refine xw_psh (v := (.int (0))) (show xm_Imp g Γ 9 (xi_psh (.int (0)) 10) from xs_iconst hΓ dX5_determined_9 (by decide)) ?_
    exact xw_iret (show xm_Imp g Γ 10 (xi_iret .int _) from xs_ireturn hΓ rfl dX5_determined_10) (xn_int _) (hP0 _ (xl_fin e hp))
