/-! THE REFERENCE as functions (printed by gen/mkmfun.py) -/
set_option maxRecDepth 100000
def F_X5_errorCode (σ : xM_S) : Int32 × xM_S :=
 ((σ.1 27), (xM_f σ 0 0))
set_option maxHeartbeats 4000000 in
theorem K_X5_errorCode {g : xm_G} (hG : xm_Gw g) {h0 : xm_H} {m : Nat} {ad : Nat → Nat} (hM : xM_ok h0 m ad) (hB : xk_B g h0)  (σ : xM_S) {o : Int32 × xM_S} (e : F_X5_errorCode σ = o) {Q : xm_P} {X : xm_X} (hQ : Q (some (.int o.1)) (xMp h0 m ad o.2)) : xm_Run g M_X5_errorCode 1 [.ref m] (xMp h0 m ad σ) 0 0 Q X := by
  refine xm_Run.of pn_StringTableauModel (Nat.le_of_ble_eq_true rfl) (fun Γ hΓ => ?_)
  obtain ⟨P0, hP0, hp⟩ : ∃ P : Int32 × xM_S → Prop, (∀ o, P o → Q (some (.int o.1)) (xMp h0 m ad o.2)) ∧ P o := ⟨fun o => Q (some (.int o.1)) (xMp h0 m ad o.2), fun _ h => h, hQ⟩
  clear hQ
  show xm_W g Γ 0 [some (.ref m)] [] (xMp h0 m ad σ) 0 0
  unfold F_X5_errorCode at e
  refine xw_ald (show xm_Imp g Γ 0 (xi_ald 0 1) from xs_aload_n hΓ dX5_errorCode_0) rfl ?_
  refine xw_psh (v := (.int (0))) (show xm_Imp g Γ 1 (xi_psh (.int (0)) 2) from xs_iconst hΓ dX5_errorCode_1 (by decide)) ?_
  refine xw_mpi (show xm_Imp g Γ 2 (xi_put 4 0 (.int) 5) from xs_put hG hΓ (ci := 4) (kf := 0) rfl (Nat.le_of_ble_eq_true rfl) rfl (by decide +kernel) q2850 dX5_errorCode_2) (fun _ _ => rfl) ⟨rfl, rfl⟩ ?_
  refine xw_ald (show xm_Imp g Γ 5 (xi_ald 0 6) from xs_aload_n hΓ dX5_errorCode_5) rfl ?_
  refine xw_mgi (v := (σ.1 27)) (show xm_Imp g Γ 6 (xi_get 4 27 9) from xs_get hG hΓ (ci := 4) (kf := 27) rfl (Nat.le_of_ble_eq_true rfl) q2877 dX5_errorCode_6) (fun _ => rfl) rfl ?_
  exact xw_iret (show xm_Imp g Γ 9 (xi_iret .int _) from xs_ireturn hΓ rfl dX5_errorCode_9) (xn_int _) (hP0 _ (xl_finV e hp))
def F_X5_errorOffset (σ : xM_S) : Int32 × xM_S :=
 ((σ.1 28), (xM_f σ 0 0))
set_option maxHeartbeats 4000000 in
theorem K_X5_errorOffset {g : xm_G} (hG : xm_Gw g) {h0 : xm_H} {m : Nat} {ad : Nat → Nat} (hM : xM_ok h0 m ad) (hB : xk_B g h0)  (σ : xM_S) {o : Int32 × xM_S} (e : F_X5_errorOffset σ = o) {Q : xm_P} {X : xm_X} (hQ : Q (some (.int o.1)) (xMp h0 m ad o.2)) : xm_Run g M_X5_errorOffset 1 [.ref m] (xMp h0 m ad σ) 0 0 Q X := by
  refine xm_Run.of pn_StringTableauModel (Nat.le_of_ble_eq_true rfl) (fun Γ hΓ => ?_)
  obtain ⟨P0, hP0, hp⟩ : ∃ P : Int32 × xM_S → Prop, (∀ o, P o → Q (some (.int o.1)) (xMp h0 m ad o.2)) ∧ P o := ⟨fun o => Q (some (.int o.1)) (xMp h0 m ad o.2), fun _ h => h, hQ⟩
  clear hQ
  show xm_W g Γ 0 [some (.ref m)] [] (xMp h0 m ad σ) 0 0
  unfold F_X5_errorOffset at e
  refine xw_ald (show xm_Imp g Γ 0 (xi_ald 0 1) from xs_aload_n hΓ dX5_errorOffset_0) rfl ?_
  refine xw_psh (v := (.int (0))) (show xm_Imp g Γ 1 (xi_psh (.int (0)) 2) from xs_iconst hΓ dX5_errorOffset_1 (by decide)) ?_
  refine xw_mpi (show xm_Imp g Γ 2 (xi_put 4 0 (.int) 5) from xs_put hG hΓ (ci := 4) (kf := 0) rfl (Nat.le_of_ble_eq_true rfl) rfl (by decide +kernel) q2850 dX5_errorOffset_2) (fun _ _ => rfl) ⟨rfl, rfl⟩ ?_
  refine xw_ald (show xm_Imp g Γ 5 (xi_ald 0 6) from xs_aload_n hΓ dX5_errorOffset_5) rfl ?_
  refine xw_mgi (v := (σ.1 28)) (show xm_Imp g Γ 6 (xi_get 4 28 9) from xs_get hG hΓ (ci := 4) (kf := 28) rfl (Nat.le_of_ble_eq_true rfl) q2878 dX5_errorOffset_6) (fun _ => rfl) rfl ?_
  exact xw_iret (show xm_Imp g Γ 9 (xi_iret .int _) from xs_ireturn hΓ rfl dX5_errorOffset_9) (xn_int _) (hP0 _ (xl_finV e hp))
noncomputable def F_X5_exchanges (p1 : Int32) (p2 : Int32) (σ : xM_S) : Option (xM_S) :=
 xo_b (F_X5_takesRow p1 σ) (fun v1 =>
 xo_b (F_X5_takesRow p2 v1) (fun v2 =>
 xo_b (F_X5_laysRow p1 v2) (fun v3 =>
 xo_b (F_X5_laysRow p2 (F_X5_takes (v1.1 6) (v1.1 7) (v1.1 8) v3)) (fun v4 =>
 some v4))))
set_option maxHeartbeats 4000000 in
theorem K_X5_exchanges {g : xm_G} (hG : xm_Gw g) {h0 : xm_H} {m : Nat} {ad : Nat → Nat} (hM : xM_ok h0 m ad) (hB : xk_B g h0) (p1 : Int32) (p2 : Int32) (σ : xM_S) {o : xM_S} (e : F_X5_exchanges p1 p2 σ = some o) {Q : xm_P} {X : xm_X} (hQ : Q none (xMp h0 m ad o)) : xm_Run g M_X5_exchanges 3 [.ref m, .int p1, .int p2] (xMp h0 m ad σ) 0 0 Q X := by
  refine xm_Run.of pn_StringTableauModel (Nat.le_of_ble_eq_true rfl) (fun Γ hΓ => ?_)
  obtain ⟨P0, hP0, hp⟩ : ∃ P : xM_S → Prop, (∀ o, P o → Q none (xMp h0 m ad o)) ∧ P o := ⟨fun o => Q none (xMp h0 m ad o), fun _ h => h, hQ⟩
  clear hQ
  show xm_W g Γ 0 [some (.ref m), some (.int p1), some (.int p2), none, none, none] [] (xMp h0 m ad σ) 0 0
  unfold F_X5_exchanges at e
  refine xw_ald (show xm_Imp g Γ 0 (xi_ald 0 1) from xs_aload_n hΓ dX5_exchanges_0) rfl ?_
  refine xw_ild (show xm_Imp g Γ 1 (xi_ild 1 2) from xs_iload_n hΓ dX5_exchanges_1) rfl ?_
  obtain ⟨v1, e1, e⟩ := xo_b_s e
  refine xw_mu1 (show xm_Imp g Γ 2 (xi_vir g 4 M_X5_takesRow 2 1 5) from xs_invV hG hΓ k_X5_takesRow rfl (ci := 4) rfl q3018 q3020 qs51 dX5_exchanges_2) rfl (fun Q X hQ => K_X5_takesRow hG hM hB p1 σ e1 hQ) ?_
  refine xw_ald (show xm_Imp g Γ 5 (xi_ald 0 6) from xs_aload_n hΓ dX5_exchanges_5) rfl ?_
  refine xw_mgi (v := (v1.1 6)) (show xm_Imp g Γ 6 (xi_get 4 6 9) from xs_get hG hΓ (ci := 4) (kf := 6) rfl (Nat.le_of_ble_eq_true rfl) q2856 dX5_exchanges_6) (fun _ => rfl) rfl ?_
  refine xw_ist (ls' := [some (.ref m), some (.int p1), some (.int p2), some (.int (v1.1 6)), none, none]) (show xm_Imp g Γ 9 (xi_ist 3 10) from xs_istore_n hΓ dX5_exchanges_9 (Nat.le_of_ble_eq_true rfl)) rfl ?_
  refine xw_ald (show xm_Imp g Γ 10 (xi_ald 0 11) from xs_aload_n hΓ dX5_exchanges_10) rfl ?_
  refine xw_mgi (v := (v1.1 7)) (show xm_Imp g Γ 11 (xi_get 4 7 14) from xs_get hG hΓ (ci := 4) (kf := 7) rfl (Nat.le_of_ble_eq_true rfl) q2857 dX5_exchanges_11) (fun _ => rfl) rfl ?_
  refine xw_ist (ls' := [some (.ref m), some (.int p1), some (.int p2), some (.int (v1.1 6)), some (.int (v1.1 7)), none]) (show xm_Imp g Γ 14 (xi_ist 4 16) from xs_istore hΓ dX5_exchanges_14 (Nat.le_of_ble_eq_true rfl)) rfl ?_
  refine xw_ald (show xm_Imp g Γ 16 (xi_ald 0 17) from xs_aload_n hΓ dX5_exchanges_16) rfl ?_
  refine xw_mgi (v := (v1.1 8)) (show xm_Imp g Γ 17 (xi_get 4 8 20) from xs_get hG hΓ (ci := 4) (kf := 8) rfl (Nat.le_of_ble_eq_true rfl) q2858 dX5_exchanges_17) (fun _ => rfl) rfl ?_
  refine xw_ist (ls' := [some (.ref m), some (.int p1), some (.int p2), some (.int (v1.1 6)), some (.int (v1.1 7)), some (.int (v1.1 8))]) (show xm_Imp g Γ 20 (xi_ist 5 22) from xs_istore hΓ dX5_exchanges_20 (Nat.le_of_ble_eq_true rfl)) rfl ?_
  refine xw_ald (show xm_Imp g Γ 22 (xi_ald 0 23) from xs_aload_n hΓ dX5_exchanges_22) rfl ?_
  refine xw_ild (show xm_Imp g Γ 23 (xi_ild 2 24) from xs_iload_n hΓ dX5_exchanges_23) rfl ?_
  obtain ⟨v2, e1, e⟩ := xo_b_s e
  refine xw_mu1 (show xm_Imp g Γ 24 (xi_vir g 4 M_X5_takesRow 2 1 27) from xs_invV hG hΓ k_X5_takesRow rfl (ci := 4) rfl q3018 q3020 qs51 dX5_exchanges_24) rfl (fun Q X hQ => K_X5_takesRow hG hM hB p2 v1 e1 hQ) ?_
  refine xw_ald (show xm_Imp g Γ 27 (xi_ald 0 28) from xs_aload_n hΓ dX5_exchanges_27) rfl ?_
  refine xw_ild (show xm_Imp g Γ 28 (xi_ild 1 29) from xs_iload_n hΓ dX5_exchanges_28) rfl ?_
  obtain ⟨v3, e1, e⟩ := xo_b_s e
  refine xw_mu1 (show xm_Imp g Γ 29 (xi_vir g 4 M_X5_laysRow 1 1 32) from xs_invV hG hΓ k_X5_laysRow rfl (ci := 4) rfl q3044 q3046 qs56 dX5_exchanges_29) rfl (fun Q X hQ => K_X5_laysRow hG hM hB p1 v2 e1 hQ) ?_
  refine xw_ald (show xm_Imp g Γ 32 (xi_ald 0 33) from xs_aload_n hΓ dX5_exchanges_32) rfl ?_
  refine xw_ild (show xm_Imp g Γ 33 (xi_ild 3 34) from xs_iload_n hΓ dX5_exchanges_33) rfl ?_
  refine xw_ild (show xm_Imp g Γ 34 (xi_ild 4 36) from xs_iload hΓ dX5_exchanges_34) rfl ?_
  refine xw_ild (show xm_Imp g Γ 36 (xi_ild 5 38) from xs_iload hΓ dX5_exchanges_36) rfl ?_
  refine xw_mu3 (show xm_Imp g Γ 38 (xi_vir g 4 M_X5_takes 1 3 41) from xs_invV hG hΓ k_X5_takes rfl (ci := 4) rfl q3022 q3024 qs52 dX5_exchanges_38) rfl (fun Q X hQ => K_X5_takes hG hM hB (v1.1 6) (v1.1 7) (v1.1 8) v3 rfl hQ) ?_
  refine xw_ald (show xm_Imp g Γ 41 (xi_ald 0 42) from xs_aload_n hΓ dX5_exchanges_41) rfl ?_
  refine xw_ild (show xm_Imp g Γ 42 (xi_ild 2 43) from xs_iload_n hΓ dX5_exchanges_42) rfl ?_
  obtain ⟨v4, e1, e⟩ := xo_b_s e
  refine xw_mu1 (show xm_Imp g Γ 43 (xi_vir g 4 M_X5_laysRow 1 1 46) from xs_invV hG hΓ k_X5_laysRow rfl (ci := 4) rfl q3044 q3046 qs56 dX5_exchanges_43) rfl (fun Q X hQ => K_X5_laysRow hG hM hB p2 (F_X5_takes (v1.1 6) (v1.1 7) (v1.1 8) v3) e1 hQ) ?_
  exact xw_vret (show xm_Imp g Γ 46 (xi_vret _) from xs_return hΓ rfl dX5_exchanges_46) (hP0 _ (xl_fin e hp))
noncomputable def B_X5_clears_108 (l1 : Int32) (l2 : Int32) (l3 : Int32) (l5 : Int32) (σ : xM_S) : Option ((Int32 × xM_S) ⊕ (Int32 × xM_S)) :=
 some (Sum.inl (l5 + 1, σ))
noncomputable def D_X5_clears_68 (l1 : Int32) (l2 : Int32) (l3 : Int32) (s : Int32 × xM_S) : Option ((Int32 × xM_S) ⊕ (Int32 × xM_S)) :=
 (if (s.2.2 1 0) ≤ s.1 then
 xl_o (some ((l3 + 1, s.2))) else
 (if s.1 = l3 then
 B_X5_clears_108 l1 l2 l3 s.1 s.2 else
 xo_b (xa_ix 530 (l1 + s.1)) (fun j1 =>
 (if (F_X5_has (s.2.2 1 j1) l2) = 0 then
 B_X5_clears_108 l1 l2 l3 s.1 s.2 else
 xo_b (F_X5_multiplies s.1 l3 s.2) (fun v2 =>
 B_X5_clears_108 l1 l2 l3 s.1 v2)))))
noncomputable def L_X5_clears_68 (l1 : Int32) (l2 : Int32) (l3 : Int32) (s : Int32 × xM_S) : Option (Int32 × xM_S) := xl_loop (D_X5_clears_68 l1 l2 l3) s
noncomputable def B_X5_clears_65 (l1 : Int32) (l2 : Int32) (l3 : Int32) (σ : xM_S) : Option (Int32 × xM_S) :=
 L_X5_clears_68 l1 l2 l3 (0, σ)
noncomputable def B_X5_clears_39 (l1 : Int32) (l2 : Int32) (l3 : Int32) (l4 : Int32) (σ : xM_S) : Option (Int32 × xM_S) :=
 (if l4 = (σ.2 1 0) then
 some ((l3, σ)) else
 (if l4 = l3 then
 B_X5_clears_65 l1 l2 l3 σ else
 xo_b (F_X5_exchanges l4 l3 σ) (fun v3 =>
 B_X5_clears_65 l1 l2 l3 v3)))
noncomputable def D_X5_clears_3 (l1 : Int32) (l2 : Int32) (l3 : Int32) (σ : xM_S) (s : Int32) : Option ((Int32) ⊕ (Int32 × xM_S)) :=
 (if (σ.2 1 0) ≤ s then
 xl_o (B_X5_clears_39 l1 l2 l3 s σ) else
 xo_b (xa_ix 530 (l1 + s)) (fun j4 =>
 (if (F_X5_has (σ.2 1 j4) l2) = 0 then
 some (Sum.inl (s + 1)) else
 xl_o (B_X5_clears_39 l1 l2 l3 s σ))))
noncomputable def L_X5_clears_3 (l1 : Int32) (l2 : Int32) (l3 : Int32) (σ : xM_S) (s : Int32) : Option (Int32 × xM_S) := xl_loop (D_X5_clears_3 l1 l2 l3 σ) s
noncomputable def F_X5_clears (p1 : Int32) (p2 : Int32) (p3 : Int32) (σ : xM_S) : Option (Int32 × xM_S) :=
 L_X5_clears_3 p1 p2 p3 σ p3
set_option maxHeartbeats 4000000 in
theorem K_X5_clears {g : xm_G} (hG : xm_Gw g) {h0 : xm_H} {m : Nat} {ad : Nat → Nat} (hM : xM_ok h0 m ad) (hB : xk_B g h0) (p1 : Int32) (p2 : Int32) (p3 : Int32) (σ : xM_S) {o : Int32 × xM_S} (e : F_X5_clears p1 p2 p3 σ = some o) {Q : xm_P} {X : xm_X} (hQ : Q (some (.int o.1)) (xMp h0 m ad o.2)) : xm_Run g M_X5_clears 6 [.ref m, .int p1, .int p2, .int p3] (xMp h0 m ad σ) 0 0 Q X := by
  refine xm_Run.of pn_StringTableauModel (Nat.le_of_ble_eq_true rfl) (fun Γ hΓ => ?_)
  obtain ⟨P0, hP0, hp⟩ : ∃ P : Int32 × xM_S → Prop, (∀ o, P o → Q (some (.int o.1)) (xMp h0 m ad o.2)) ∧ P o := ⟨fun o => Q (some (.int o.1)) (xMp h0 m ad o.2), fun _ h => h, hQ⟩
  clear hQ
  show xm_W g Γ 0 [some (.ref m), some (.int p1), some (.int p2), some (.int p3), none, none] [] (xMp h0 m ad σ) 0 0
  have hL_68 : ∀ (l1 : Int32) (l2 : Int32) (l3 : Int32) (s : Int32 × xM_S) (o : Int32 × xM_S), L_X5_clears_68 l1 l2 l3 s = some o → P0 o → xm_W g Γ 68 [some (.ref m), some (.int l1), some (.int l2), some (.int l3), none, some (.int s.1)] [] (xMp h0 m ad s.2) 0 0 := by
    intro l1 l2 l3
    refine xl_rule (WS := fun s : Int32 × xM_S => xm_W g Γ 68 [some (.ref m), some (.int l1), some (.int l2), some (.int l3), none, some (.int s.1)] [] (xMp h0 m ad s.2) 0 0) ?_
    intro s o e hp
    obtain ⟨P1, hP1, hp⟩ : ∃ P : (Int32 × xM_S) ⊕ (Int32 × xM_S) → Prop, (∀ o, P o → xl_P (fun s : Int32 × xM_S => xm_W g Γ 68 [some (.ref m), some (.int l1), some (.int l2), some (.int l3), none, some (.int s.1)] [] (xMp h0 m ad s.2) 0 0) P0 o) ∧ P o := ⟨_, fun _ h => h, hp⟩
    have hB_108 : ∀ (l5 : Int32) (σ : xM_S) (o : (Int32 × xM_S) ⊕ (Int32 × xM_S)), B_X5_clears_108 l1 l2 l3 l5 σ = some o → P1 o → xm_W g Γ 108 [some (.ref m), some (.int l1), some (.int l2), some (.int l3), none, some (.int l5)] [] (xMp h0 m ad σ) 0 0 := by
      intro l5 σ o e hp
      unfold B_X5_clears_108 at e
      refine xw_inc (v := (1)) (ls' := [some (.ref m), some (.int l1), some (.int l2), some (.int l3), none, some (.int (l5 + 1))]) (show xm_Imp g Γ 108 (xi_inc 5 (1) 111) from xs_iinc hΓ dX5_clears_108 (by decide) (Nat.le_of_ble_eq_true rfl)) rfl rfl ?_
      refine xw_goto (show xm_Imp g Γ 111 (xi_goto 68) from xs_goto hΓ dX5_clears_111 (by decide)) ?_
      have hq := xl_P_inl (hP1 _ (xl_fin e hp)); exact hq
    unfold D_X5_clears_68 at e
    refine xw_ild (show xm_Imp g Γ 68 (xi_ild 5 70) from xs_iload hΓ dX5_clears_68) rfl ?_
    refine xw_ald (show xm_Imp g Γ 70 (xi_ald 0 71) from xs_aload_n hΓ dX5_clears_70) rfl ?_
    refine xw_mga (k := 1) (show xm_Imp g Γ 71 (xi_get 4 1 74) from xs_get hG hΓ (ci := 4) (kf := 1) rfl (Nat.le_of_ble_eq_true rfl) q2851 dX5_clears_71) (fun _ => rfl) ?_
    refine xw_psh (v := (.int (0))) (show xm_Imp g Γ 74 (xi_psh (.int (0)) 75) from xs_iconst hΓ dX5_clears_74 (by decide)) ?_
    refine xw_mial (k := 1) (j := 0) (v := (s.2.2 1 0)) (show xm_Imp g Γ 75 (xi_ial 76) from xs_ial hG hΓ dX5_clears_75) hM (by decide) rfl rfl rfl ?_
    refine xw_ic (show xm_Imp g Γ 76 (xi_ic (fun x y => y ≤ x) 114 79) from xs_icmp_ge hΓ dX5_clears_76 (by decide)) (fun c => ?_) (fun c => ?_)
    · rw [if_pos c] at e
      obtain ⟨_, e, hp⟩ := xl_o_s e (hP1 _ hp)
      refine xw_ild (show xm_Imp g Γ 114 (xi_ild 3 115) from xs_iload_n hΓ dX5_clears_114) rfl ?_
      refine xw_psh (v := (.int (1))) (show xm_Imp g Γ 115 (xi_psh (.int (1)) 116) from xs_iconst hΓ dX5_clears_115 (by decide)) ?_
      refine xw_ii (show xm_Imp g Γ 116 (xi_ii (fun x y => x + y) 117) from xs_iadd hΓ dX5_clears_116) ?_
      exact xw_iret (show xm_Imp g Γ 117 (xi_iret .int _) from xs_ireturn hΓ rfl dX5_clears_117) (xn_int _) (hP0 _ (xl_fin e hp))
    · rw [if_neg c] at e
      refine xw_ild (show xm_Imp g Γ 79 (xi_ild 5 81) from xs_iload hΓ dX5_clears_79) rfl ?_
      refine xw_ild (show xm_Imp g Γ 81 (xi_ild 3 82) from xs_iload_n hΓ dX5_clears_81) rfl ?_
      refine xw_ic (show xm_Imp g Γ 82 (xi_ic (fun x y => x = y) 108 85) from xs_icmp_eq hΓ dX5_clears_82 (by decide)) (fun c => ?_) (fun c => ?_)
      · rw [if_pos c] at e
        exact hB_108 _ _ _ e hp
      · rw [if_neg c] at e
        refine xw_ald (show xm_Imp g Γ 85 (xi_ald 0 86) from xs_aload_n hΓ dX5_clears_85) rfl ?_
        refine xw_mga (k := 1) (show xm_Imp g Γ 86 (xi_get 4 1 89) from xs_get hG hΓ (ci := 4) (kf := 1) rfl (Nat.le_of_ble_eq_true rfl) q2851 dX5_clears_86) (fun _ => rfl) ?_
        refine xw_ild (show xm_Imp g Γ 89 (xi_ild 1 90) from xs_iload_n hΓ dX5_clears_89) rfl ?_
        refine xw_ild (show xm_Imp g Γ 90 (xi_ild 5 92) from xs_iload hΓ dX5_clears_90) rfl ?_
        refine xw_ii (show xm_Imp g Γ 92 (xi_ii (fun x y => x + y) 93) from xs_iadd hΓ dX5_clears_92) ?_
        obtain ⟨j1, e1, e⟩ := xo_b_s e
        refine xw_mial (k := 1) (v := (s.2.2 1 j1)) (show xm_Imp g Γ 93 (xi_ial 94) from xs_ial hG hΓ dX5_clears_93) hM (by decide) rfl e1 rfl ?_
        refine xw_ild (show xm_Imp g Γ 94 (xi_ild 2 95) from xs_iload_n hΓ dX5_clears_94) rfl ?_
        refine xw_sv2 (show xm_Imp g Γ 95 (xi_inv g M_X5_has 1 2 98) from xs_invS hG hΓ k_X5_has rfl q3037 q3038 dX5_clears_95) rfl (fun Q X hQ => K_X5_has hG (s.2.2 1 j1) l2 rfl hQ) ?_
        refine xw_if (show xm_Imp g Γ 98 (xi_if (fun x => x = 0) 108 101) from xs_if_eq hΓ dX5_clears_98 (by decide)) (fun c => ?_) (fun c => ?_)
        · rw [if_pos c] at e
          exact hB_108 _ _ _ e hp
        · rw [if_neg c] at e
          refine xw_ald (show xm_Imp g Γ 101 (xi_ald 0 102) from xs_aload_n hΓ dX5_clears_101) rfl ?_
          refine xw_ild (show xm_Imp g Γ 102 (xi_ild 5 104) from xs_iload hΓ dX5_clears_102) rfl ?_
          refine xw_ild (show xm_Imp g Γ 104 (xi_ild 3 105) from xs_iload_n hΓ dX5_clears_104) rfl ?_
          obtain ⟨v2, e1, e⟩ := xo_b_s e
          refine xw_mu2 (show xm_Imp g Γ 105 (xi_vir g 4 M_X5_multiplies 5 2 108) from xs_invV hG hΓ k_X5_multiplies rfl (ci := 4) rfl q3123 q3125 qs71 dX5_clears_105) rfl (fun Q X hQ => K_X5_multiplies hG hM hB s.1 l3 s.2 e1 hQ) ?_
          exact hB_108 _ _ _ e hp
  have hB_65 : ∀ (l1 : Int32) (l2 : Int32) (l3 : Int32) (σ : xM_S) (o : Int32 × xM_S), B_X5_clears_65 l1 l2 l3 σ = some o → P0 o → xm_W g Γ 65 [some (.ref m), some (.int l1), some (.int l2), some (.int l3), none, none] [] (xMp h0 m ad σ) 0 0 := by
    intro l1 l2 l3 σ o e hp
    unfold B_X5_clears_65 at e
    refine xw_psh (v := (.int (0))) (show xm_Imp g Γ 65 (xi_psh (.int (0)) 66) from xs_iconst hΓ dX5_clears_65 (by decide)) ?_
    refine xw_ist (ls' := [some (.ref m), some (.int l1), some (.int l2), some (.int l3), none, some (.int 0)]) (show xm_Imp g Γ 66 (xi_ist 5 68) from xs_istore hΓ dX5_clears_66 (Nat.le_of_ble_eq_true rfl)) rfl ?_
    exact hL_68 _ _ _ _ _ e hp
  have hB_39 : ∀ (l1 : Int32) (l2 : Int32) (l3 : Int32) (l4 : Int32) (σ : xM_S) (o : Int32 × xM_S), B_X5_clears_39 l1 l2 l3 l4 σ = some o → P0 o → xm_W g Γ 39 [some (.ref m), some (.int l1), some (.int l2), some (.int l3), some (.int l4), none] [] (xMp h0 m ad σ) 0 0 := by
    intro l1 l2 l3 l4 σ o e hp
    unfold B_X5_clears_39 at e
    refine xw_ild (show xm_Imp g Γ 39 (xi_ild 4 41) from xs_iload hΓ dX5_clears_39) rfl ?_
    refine xw_ald (show xm_Imp g Γ 41 (xi_ald 0 42) from xs_aload_n hΓ dX5_clears_41) rfl ?_
    refine xw_mga (k := 1) (show xm_Imp g Γ 42 (xi_get 4 1 45) from xs_get hG hΓ (ci := 4) (kf := 1) rfl (Nat.le_of_ble_eq_true rfl) q2851 dX5_clears_42) (fun _ => rfl) ?_
    refine xw_psh (v := (.int (0))) (show xm_Imp g Γ 45 (xi_psh (.int (0)) 46) from xs_iconst hΓ dX5_clears_45 (by decide)) ?_
    refine xw_mial (k := 1) (j := 0) (v := (σ.2 1 0)) (show xm_Imp g Γ 46 (xi_ial 47) from xs_ial hG hΓ dX5_clears_46) hM (by decide) rfl rfl rfl ?_
    refine xw_ic (show xm_Imp g Γ 47 (xi_ic (fun x y => x = y) 50 52) from xs_icmp_ne hΓ dX5_clears_47 (by decide)) (fun c => ?_) (fun c => ?_)
    · rw [if_pos c] at e
      refine xw_ild (show xm_Imp g Γ 50 (xi_ild 3 51) from xs_iload_n hΓ dX5_clears_50) rfl ?_
      exact xw_iret (show xm_Imp g Γ 51 (xi_iret .int _) from xs_ireturn hΓ rfl dX5_clears_51) (xn_int _) (hP0 _ (xl_fin e hp))
    · rw [if_neg c] at e
      refine xw_ild (show xm_Imp g Γ 52 (xi_ild 4 54) from xs_iload hΓ dX5_clears_52) rfl ?_
      refine xw_ild (show xm_Imp g Γ 54 (xi_ild 3 55) from xs_iload_n hΓ dX5_clears_54) rfl ?_
      refine xw_ic (show xm_Imp g Γ 55 (xi_ic (fun x y => x = y) 65 58) from xs_icmp_eq hΓ dX5_clears_55 (by decide)) (fun c => ?_) (fun c => ?_)
      · rw [if_pos c] at e
        exact xm_lx (hB_65 _ _ _ _ _ e hp) (And.intro rfl (And.intro rfl (And.intro rfl (And.intro rfl (trivial)))))
      · rw [if_neg c] at e
        refine xw_ald (show xm_Imp g Γ 58 (xi_ald 0 59) from xs_aload_n hΓ dX5_clears_58) rfl ?_
        refine xw_ild (show xm_Imp g Γ 59 (xi_ild 4 61) from xs_iload hΓ dX5_clears_59) rfl ?_
        refine xw_ild (show xm_Imp g Γ 61 (xi_ild 3 62) from xs_iload_n hΓ dX5_clears_61) rfl ?_
        obtain ⟨v3, e1, e⟩ := xo_b_s e
        refine xw_mu2 (show xm_Imp g Γ 62 (xi_vir g 4 M_X5_exchanges 3 2 65) from xs_invV hG hΓ k_X5_exchanges rfl (ci := 4) rfl q3280 q3282 qs95 dX5_clears_62) rfl (fun Q X hQ => K_X5_exchanges hG hM hB l4 l3 σ e1 hQ) ?_
        exact xm_lx (hB_65 _ _ _ _ _ e hp) (And.intro rfl (And.intro rfl (And.intro rfl (And.intro rfl (trivial)))))
  have hL_3 : ∀ (l1 : Int32) (l2 : Int32) (l3 : Int32) (σ : xM_S) (s : Int32) (o : Int32 × xM_S), L_X5_clears_3 l1 l2 l3 σ s = some o → P0 o → xm_W g Γ 3 [some (.ref m), some (.int l1), some (.int l2), some (.int l3), some (.int s), none] [] (xMp h0 m ad σ) 0 0 := by
    intro l1 l2 l3 σ
    refine xl_rule (WS := fun s : Int32 => xm_W g Γ 3 [some (.ref m), some (.int l1), some (.int l2), some (.int l3), some (.int s), none] [] (xMp h0 m ad σ) 0 0) ?_
    intro s o e hp
    obtain ⟨P1, hP1, hp⟩ : ∃ P : (Int32) ⊕ (Int32 × xM_S) → Prop, (∀ o, P o → xl_P (fun s : Int32 => xm_W g Γ 3 [some (.ref m), some (.int l1), some (.int l2), some (.int l3), some (.int s), none] [] (xMp h0 m ad σ) 0 0) P0 o) ∧ P o := ⟨_, fun _ h => h, hp⟩
    unfold D_X5_clears_3 at e
    refine xw_ild (show xm_Imp g Γ 3 (xi_ild 4 5) from xs_iload hΓ dX5_clears_3) rfl ?_
    refine xw_ald (show xm_Imp g Γ 5 (xi_ald 0 6) from xs_aload_n hΓ dX5_clears_5) rfl ?_
    refine xw_mga (k := 1) (show xm_Imp g Γ 6 (xi_get 4 1 9) from xs_get hG hΓ (ci := 4) (kf := 1) rfl (Nat.le_of_ble_eq_true rfl) q2851 dX5_clears_6) (fun _ => rfl) ?_
    refine xw_psh (v := (.int (0))) (show xm_Imp g Γ 9 (xi_psh (.int (0)) 10) from xs_iconst hΓ dX5_clears_9 (by decide)) ?_
    refine xw_mial (k := 1) (j := 0) (v := (σ.2 1 0)) (show xm_Imp g Γ 10 (xi_ial 11) from xs_ial hG hΓ dX5_clears_10) hM (by decide) rfl rfl rfl ?_
    refine xw_ic (show xm_Imp g Γ 11 (xi_ic (fun x y => y ≤ x) 39 14) from xs_icmp_ge hΓ dX5_clears_11 (by decide)) (fun c => ?_) (fun c => ?_)
    · rw [if_pos c] at e
      obtain ⟨_, e, hp⟩ := xl_o_s e (hP1 _ hp)
      exact hB_39 _ _ _ _ _ _ e hp
    · rw [if_neg c] at e
      refine xw_ald (show xm_Imp g Γ 14 (xi_ald 0 15) from xs_aload_n hΓ dX5_clears_14) rfl ?_
      refine xw_mga (k := 1) (show xm_Imp g Γ 15 (xi_get 4 1 18) from xs_get hG hΓ (ci := 4) (kf := 1) rfl (Nat.le_of_ble_eq_true rfl) q2851 dX5_clears_15) (fun _ => rfl) ?_
      refine xw_ild (show xm_Imp g Γ 18 (xi_ild 1 19) from xs_iload_n hΓ dX5_clears_18) rfl ?_
      refine xw_ild (show xm_Imp g Γ 19 (xi_ild 4 21) from xs_iload hΓ dX5_clears_19) rfl ?_
      refine xw_ii (show xm_Imp g Γ 21 (xi_ii (fun x y => x + y) 22) from xs_iadd hΓ dX5_clears_21) ?_
      obtain ⟨j4, e1, e⟩ := xo_b_s e
      refine xw_mial (k := 1) (v := (σ.2 1 j4)) (show xm_Imp g Γ 22 (xi_ial 23) from xs_ial hG hΓ dX5_clears_22) hM (by decide) rfl e1 rfl ?_
      refine xw_ild (show xm_Imp g Γ 23 (xi_ild 2 24) from xs_iload_n hΓ dX5_clears_23) rfl ?_
      refine xw_sv2 (show xm_Imp g Γ 24 (xi_inv g M_X5_has 1 2 27) from xs_invS hG hΓ k_X5_has rfl q3037 q3038 dX5_clears_24) rfl (fun Q X hQ => K_X5_has hG (σ.2 1 j4) l2 rfl hQ) ?_
      refine xw_if (show xm_Imp g Γ 27 (xi_if (fun x => x = 0) 30 39) from xs_if_ne hΓ dX5_clears_27 (by decide)) (fun c => ?_) (fun c => ?_)
      · rw [if_pos c] at e
        refine xw_ild (show xm_Imp g Γ 30 (xi_ild 4 32) from xs_iload hΓ dX5_clears_30) rfl ?_
        refine xw_psh (v := (.int (1))) (show xm_Imp g Γ 32 (xi_psh (.int (1)) 33) from xs_iconst hΓ dX5_clears_32 (by decide)) ?_
        refine xw_ii (show xm_Imp g Γ 33 (xi_ii (fun x y => x + y) 34) from xs_iadd hΓ dX5_clears_33) ?_
        refine xw_ist (ls' := [some (.ref m), some (.int l1), some (.int l2), some (.int l3), some (.int (s + 1)), none]) (show xm_Imp g Γ 34 (xi_ist 4 36) from xs_istore hΓ dX5_clears_34 (Nat.le_of_ble_eq_true rfl)) rfl ?_
        refine xw_goto (show xm_Imp g Γ 36 (xi_goto 3) from xs_goto hΓ dX5_clears_36 (by decide)) ?_
        have hq := xl_P_inl (hP1 _ (xl_fin e hp)); exact hq
      · rw [if_neg c] at e
        obtain ⟨_, e, hp⟩ := xl_o_s e (hP1 _ hp)
        exact hB_39 _ _ _ _ _ _ e hp
  unfold F_X5_clears at e
  refine xw_ild (show xm_Imp g Γ 0 (xi_ild 3 1) from xs_iload_n hΓ dX5_clears_0) rfl ?_
  refine xw_ist (ls' := [some (.ref m), some (.int p1), some (.int p2), some (.int p3), some (.int p3), none]) (show xm_Imp g Γ 1 (xi_ist 4 3) from xs_istore hΓ dX5_clears_1 (Nat.le_of_ble_eq_true rfl)) rfl ?_
  exact hL_3 _ _ _ _ _ _ e hp
noncomputable def D_X5_straightens_31  (s : Int32 × Int32 × xM_S) : Option ((Int32 × Int32 × xM_S) ⊕ (xM_S)) :=
 (if (s.2.2.2 1 0) ≤ s.2.1 then
 xl_o (some s.2.2) else
 xo_b (F_X5_clears 14 s.2.1 s.1 s.2.2) (fun v1 =>
 some (Sum.inl (v1.1, s.2.1 + 1, v1.2))))
noncomputable def L_X5_straightens_31  (s : Int32 × Int32 × xM_S) : Option (xM_S) := xl_loop (D_X5_straightens_31 ) s
noncomputable def D_X5_straightens_4  (s : Int32 × Int32 × xM_S) : Option ((Int32 × Int32 × xM_S) ⊕ (xM_S)) :=
 (if (s.2.2.2 1 0) ≤ s.2.1 then
 xl_o (L_X5_straightens_31 (s.1, 0, s.2.2)) else
 xo_b (F_X5_clears 6 s.2.1 s.1 s.2.2) (fun v2 =>
 some (Sum.inl (v2.1, s.2.1 + 1, v2.2))))
noncomputable def L_X5_straightens_4  (s : Int32 × Int32 × xM_S) : Option (xM_S) := xl_loop (D_X5_straightens_4 ) s
noncomputable def F_X5_straightens (σ : xM_S) : Option (xM_S) :=
 L_X5_straightens_4 (0, 0, σ)
set_option maxHeartbeats 4000000 in
theorem K_X5_straightens {g : xm_G} (hG : xm_Gw g) {h0 : xm_H} {m : Nat} {ad : Nat → Nat} (hM : xM_ok h0 m ad) (hB : xk_B g h0)  (σ : xM_S) {o : xM_S} (e : F_X5_straightens σ = some o) {Q : xm_P} {X : xm_X} (hQ : Q none (xMp h0 m ad o)) : xm_Run g M_X5_straightens 7 [.ref m] (xMp h0 m ad σ) 0 0 Q X := by
  refine xm_Run.of pn_StringTableauModel (Nat.le_of_ble_eq_true rfl) (fun Γ hΓ => ?_)
  obtain ⟨P0, hP0, hp⟩ : ∃ P : xM_S → Prop, (∀ o, P o → Q none (xMp h0 m ad o)) ∧ P o := ⟨fun o => Q none (xMp h0 m ad o), fun _ h => h, hQ⟩
  clear hQ
  show xm_W g Γ 0 [some (.ref m), none, none] [] (xMp h0 m ad σ) 0 0
  have hL_31 : ∀  (s : Int32 × Int32 × xM_S) (o : xM_S), L_X5_straightens_31  s = some o → P0 o → xm_W g Γ 31 [some (.ref m), some (.int s.1), some (.int s.2.1)] [] (xMp h0 m ad s.2.2) 0 0 := by
    skip
    refine xl_rule (WS := fun s : Int32 × Int32 × xM_S => xm_W g Γ 31 [some (.ref m), some (.int s.1), some (.int s.2.1)] [] (xMp h0 m ad s.2.2) 0 0) ?_
    intro s o e hp
    obtain ⟨P1, hP1, hp⟩ : ∃ P : (Int32 × Int32 × xM_S) ⊕ (xM_S) → Prop, (∀ o, P o → xl_P (fun s : Int32 × Int32 × xM_S => xm_W g Γ 31 [some (.ref m), some (.int s.1), some (.int s.2.1)] [] (xMp h0 m ad s.2.2) 0 0) P0 o) ∧ P o := ⟨_, fun _ h => h, hp⟩
    unfold D_X5_straightens_31 at e
    refine xw_ild (show xm_Imp g Γ 31 (xi_ild 2 32) from xs_iload_n hΓ dX5_straightens_31) rfl ?_
    refine xw_ald (show xm_Imp g Γ 32 (xi_ald 0 33) from xs_aload_n hΓ dX5_straightens_32) rfl ?_
    refine xw_mga (k := 1) (show xm_Imp g Γ 33 (xi_get 4 1 36) from xs_get hG hΓ (ci := 4) (kf := 1) rfl (Nat.le_of_ble_eq_true rfl) q2851 dX5_straightens_33) (fun _ => rfl) ?_
    refine xw_psh (v := (.int (0))) (show xm_Imp g Γ 36 (xi_psh (.int (0)) 37) from xs_iconst hΓ dX5_straightens_36 (by decide)) ?_
    refine xw_mial (k := 1) (j := 0) (v := (s.2.2.2 1 0)) (show xm_Imp g Γ 37 (xi_ial 38) from xs_ial hG hΓ dX5_straightens_37) hM (by decide) rfl rfl rfl ?_
    refine xw_ic (show xm_Imp g Γ 38 (xi_ic (fun x y => y ≤ x) 56 41) from xs_icmp_ge hΓ dX5_straightens_38 (by decide)) (fun c => ?_) (fun c => ?_)
    · rw [if_pos c] at e
      obtain ⟨_, e, hp⟩ := xl_o_s e (hP1 _ hp)
      exact xw_vret (show xm_Imp g Γ 56 (xi_vret _) from xs_return hΓ rfl dX5_straightens_56) (hP0 _ (xl_fin e hp))
    · rw [if_neg c] at e
      refine xw_ald (show xm_Imp g Γ 41 (xi_ald 0 42) from xs_aload_n hΓ dX5_straightens_41) rfl ?_
      refine xw_psh (v := (.int (14))) (show xm_Imp g Γ 42 (xi_psh (.int (14)) 44) from xs_bipush hΓ dX5_straightens_42 (by decide)) ?_
      refine xw_ild (show xm_Imp g Γ 44 (xi_ild 2 45) from xs_iload_n hΓ dX5_straightens_44) rfl ?_
      refine xw_ild (show xm_Imp g Γ 45 (xi_ild 1 46) from xs_iload_n hΓ dX5_straightens_45) rfl ?_
      obtain ⟨v1, e1, e⟩ := xo_b_s e
      refine xw_mv3 (show xm_Imp g Γ 46 (xi_vir g 4 M_X5_clears 6 3 49) from xs_invV hG hΓ k_X5_clears rfl (ci := 4) rfl q3276 q3278 qs94 dX5_straightens_46) rfl (fun Q X hQ => K_X5_clears hG hM hB 14 s.2.1 s.1 s.2.2 e1 hQ) ?_
      refine xw_ist (ls' := [some (.ref m), some (.int v1.1), some (.int s.2.1)]) (show xm_Imp g Γ 49 (xi_ist 1 50) from xs_istore_n hΓ dX5_straightens_49 (Nat.le_of_ble_eq_true rfl)) rfl ?_
      refine xw_inc (v := (1)) (ls' := [some (.ref m), some (.int v1.1), some (.int (s.2.1 + 1))]) (show xm_Imp g Γ 50 (xi_inc 2 (1) 53) from xs_iinc hΓ dX5_straightens_50 (by decide) (Nat.le_of_ble_eq_true rfl)) rfl rfl ?_
      refine xw_goto (show xm_Imp g Γ 53 (xi_goto 31) from xs_goto hΓ dX5_straightens_53 (by decide)) ?_
      have hq := xl_P_inl (hP1 _ (xl_fin e hp)); exact hq
  have hL_4 : ∀  (s : Int32 × Int32 × xM_S) (o : xM_S), L_X5_straightens_4  s = some o → P0 o → xm_W g Γ 4 [some (.ref m), some (.int s.1), some (.int s.2.1)] [] (xMp h0 m ad s.2.2) 0 0 := by
    skip
    refine xl_rule (WS := fun s : Int32 × Int32 × xM_S => xm_W g Γ 4 [some (.ref m), some (.int s.1), some (.int s.2.1)] [] (xMp h0 m ad s.2.2) 0 0) ?_
    intro s o e hp
    obtain ⟨P1, hP1, hp⟩ : ∃ P : (Int32 × Int32 × xM_S) ⊕ (xM_S) → Prop, (∀ o, P o → xl_P (fun s : Int32 × Int32 × xM_S => xm_W g Γ 4 [some (.ref m), some (.int s.1), some (.int s.2.1)] [] (xMp h0 m ad s.2.2) 0 0) P0 o) ∧ P o := ⟨_, fun _ h => h, hp⟩
    unfold D_X5_straightens_4 at e
    refine xw_ild (show xm_Imp g Γ 4 (xi_ild 2 5) from xs_iload_n hΓ dX5_straightens_4) rfl ?_
    refine xw_ald (show xm_Imp g Γ 5 (xi_ald 0 6) from xs_aload_n hΓ dX5_straightens_5) rfl ?_
    refine xw_mga (k := 1) (show xm_Imp g Γ 6 (xi_get 4 1 9) from xs_get hG hΓ (ci := 4) (kf := 1) rfl (Nat.le_of_ble_eq_true rfl) q2851 dX5_straightens_6) (fun _ => rfl) ?_
    refine xw_psh (v := (.int (0))) (show xm_Imp g Γ 9 (xi_psh (.int (0)) 10) from xs_iconst hΓ dX5_straightens_9 (by decide)) ?_
    refine xw_mial (k := 1) (j := 0) (v := (s.2.2.2 1 0)) (show xm_Imp g Γ 10 (xi_ial 11) from xs_ial hG hΓ dX5_straightens_10) hM (by decide) rfl rfl rfl ?_
    refine xw_ic (show xm_Imp g Γ 11 (xi_ic (fun x y => y ≤ x) 29 14) from xs_icmp_ge hΓ dX5_straightens_11 (by decide)) (fun c => ?_) (fun c => ?_)
    · rw [if_pos c] at e
      obtain ⟨_, e, hp⟩ := xl_o_s e (hP1 _ hp)
      refine xw_psh (v := (.int (0))) (show xm_Imp g Γ 29 (xi_psh (.int (0)) 30) from xs_iconst hΓ dX5_straightens_29 (by decide)) ?_
      refine xw_ist (ls' := [some (.ref m), some (.int s.1), some (.int 0)]) (show xm_Imp g Γ 30 (xi_ist 2 31) from xs_istore_n hΓ dX5_straightens_30 (Nat.le_of_ble_eq_true rfl)) rfl ?_
      exact hL_31 _ _ e hp
    · rw [if_neg c] at e
      refine xw_ald (show xm_Imp g Γ 14 (xi_ald 0 15) from xs_aload_n hΓ dX5_straightens_14) rfl ?_
      refine xw_psh (v := (.int (6))) (show xm_Imp g Γ 15 (xi_psh (.int (6)) 17) from xs_bipush hΓ dX5_straightens_15 (by decide)) ?_
      refine xw_ild (show xm_Imp g Γ 17 (xi_ild 2 18) from xs_iload_n hΓ dX5_straightens_17) rfl ?_
      refine xw_ild (show xm_Imp g Γ 18 (xi_ild 1 19) from xs_iload_n hΓ dX5_straightens_18) rfl ?_
      obtain ⟨v2, e1, e⟩ := xo_b_s e
      refine xw_mv3 (show xm_Imp g Γ 19 (xi_vir g 4 M_X5_clears 6 3 22) from xs_invV hG hΓ k_X5_clears rfl (ci := 4) rfl q3276 q3278 qs94 dX5_straightens_19) rfl (fun Q X hQ => K_X5_clears hG hM hB 6 s.2.1 s.1 s.2.2 e1 hQ) ?_
      refine xw_ist (ls' := [some (.ref m), some (.int v2.1), some (.int s.2.1)]) (show xm_Imp g Γ 22 (xi_ist 1 23) from xs_istore_n hΓ dX5_straightens_22 (Nat.le_of_ble_eq_true rfl)) rfl ?_
      refine xw_inc (v := (1)) (ls' := [some (.ref m), some (.int v2.1), some (.int (s.2.1 + 1))]) (show xm_Imp g Γ 23 (xi_inc 2 (1) 26) from xs_iinc hΓ dX5_straightens_23 (by decide) (Nat.le_of_ble_eq_true rfl)) rfl rfl ?_
      refine xw_goto (show xm_Imp g Γ 26 (xi_goto 4) from xs_goto hΓ dX5_straightens_26 (by decide)) ?_
      have hq := xl_P_inl (hP1 _ (xl_fin e hp)); exact hq
  unfold F_X5_straightens at e
  refine xw_psh (v := (.int (0))) (show xm_Imp g Γ 0 (xi_psh (.int (0)) 1) from xs_iconst hΓ dX5_straightens_0 (by decide)) ?_
  refine xw_ist (ls' := [some (.ref m), some (.int 0), none]) (show xm_Imp g Γ 1 (xi_ist 1 2) from xs_istore_n hΓ dX5_straightens_1 (Nat.le_of_ble_eq_true rfl)) rfl ?_
  refine xw_psh (v := (.int (0))) (show xm_Imp g Γ 2 (xi_psh (.int (0)) 3) from xs_iconst hΓ dX5_straightens_2 (by decide)) ?_
  refine xw_ist (ls' := [some (.ref m), some (.int 0), some (.int 0)]) (show xm_Imp g Γ 3 (xi_ist 2 4) from xs_istore_n hΓ dX5_straightens_3 (Nat.le_of_ble_eq_true rfl)) rfl ?_
  exact hL_4 _ _ e hp
noncomputable def F_X5_makeCanonical (σ : xM_S) : Option (Int32 × xM_S) :=
 xo_b (F_X5_starts (xM_f σ 0 0)) (fun v1 =>
 xo_b (F_X5_straightens v1) (fun v2 =>
 xo_b (F_X5_keeps v2) (fun v3 =>
 xo_b (F_X5_changed v3) (fun v4 =>
 some ((v4, v3))))))
set_option maxHeartbeats 4000000 in
theorem K_X5_makeCanonical {g : xm_G} (hG : xm_Gw g) {h0 : xm_H} {m : Nat} {ad : Nat → Nat} (hM : xM_ok h0 m ad) (hB : xk_B g h0)  (σ : xM_S) {o : Int32 × xM_S} (e : F_X5_makeCanonical σ = some o) {Q : xm_P} {X : xm_X} (hQ : Q (some (.int o.1)) (xMp h0 m ad o.2)) : xm_Run g M_X5_makeCanonical 8 [.ref m] (xMp h0 m ad σ) 0 0 Q X := by
  refine xm_Run.of pn_StringTableauModel (Nat.le_of_ble_eq_true rfl) (fun Γ hΓ => ?_)
  obtain ⟨P0, hP0, hp⟩ : ∃ P : Int32 × xM_S → Prop, (∀ o, P o → Q (some (.int o.1)) (xMp h0 m ad o.2)) ∧ P o := ⟨fun o => Q (some (.int o.1)) (xMp h0 m ad o.2), fun _ h => h, hQ⟩
  clear hQ
  show xm_W g Γ 0 [some (.ref m)] [] (xMp h0 m ad σ) 0 0
  unfold F_X5_makeCanonical at e
  refine xw_ald (show xm_Imp g Γ 0 (xi_ald 0 1) from xs_aload_n hΓ dX5_makeCanonical_0) rfl ?_
  refine xw_psh (v := (.int (0))) (show xm_Imp g Γ 1 (xi_psh (.int (0)) 2) from xs_iconst hΓ dX5_makeCanonical_1 (by decide)) ?_
  refine xw_mpi (show xm_Imp g Γ 2 (xi_put 4 0 (.int) 5) from xs_put hG hΓ (ci := 4) (kf := 0) rfl (Nat.le_of_ble_eq_true rfl) rfl (by decide +kernel) q2850 dX5_makeCanonical_2) (fun _ _ => rfl) ⟨rfl, rfl⟩ ?_
  refine xw_ald (show xm_Imp g Γ 5 (xi_ald 0 6) from xs_aload_n hΓ dX5_makeCanonical_5) rfl ?_
  obtain ⟨v1, e1, e⟩ := xo_b_s e
  refine xw_mu0 (show xm_Imp g Γ 6 (xi_vir g 4 M_X5_starts 2 0 9) from xs_invV hG hΓ k_X5_starts rfl (ci := 4) rfl q3007 q3009 qs49 dX5_makeCanonical_6) rfl (fun Q X hQ => K_X5_starts hG hM hB (xM_f σ 0 0) e1 hQ) ?_
  refine xw_ald (show xm_Imp g Γ 9 (xi_ald 0 10) from xs_aload_n hΓ dX5_makeCanonical_9) rfl ?_
  obtain ⟨v2, e1, e⟩ := xo_b_s e
  refine xw_mu0 (show xm_Imp g Γ 10 (xi_vir g 4 M_X5_straightens 7 0 13) from xs_invV hG hΓ k_X5_straightens rfl (ci := 4) rfl q3272 q3274 qs93 dX5_makeCanonical_10) rfl (fun Q X hQ => K_X5_straightens hG hM hB v1 e1 hQ) ?_
  refine xw_ald (show xm_Imp g Γ 13 (xi_ald 0 14) from xs_aload_n hΓ dX5_makeCanonical_13) rfl ?_
  obtain ⟨v3, e1, e⟩ := xo_b_s e
  refine xw_mu0 (show xm_Imp g Γ 14 (xi_vir g 4 M_X5_keeps 1 0 17) from xs_invV hG hΓ k_X5_keeps rfl (ci := 4) rfl q3052 q3054 qs58 dX5_makeCanonical_14) rfl (fun Q X hQ => K_X5_keeps hG hM hB v2 e1 hQ) ?_
  refine xw_ald (show xm_Imp g Γ 17 (xi_ald 0 18) from xs_aload_n hΓ dX5_makeCanonical_17) rfl ?_
  obtain ⟨v4, e1, e⟩ := xo_b_s e
  refine xw_mv0 (show xm_Imp g Γ 18 (xi_vir g 4 M_X5_changed 1 0 21) from xs_invV hG hΓ k_X5_changed rfl (ci := 4) rfl q3056 q3058 qs59 dX5_makeCanonical_18) rfl (fun Q X hQ => K_X5_changed hG hM hB v3 e1 hQ) ?_
  exact xw_iret (show xm_Imp g Γ 21 (xi_iret .int _) from xs_ireturn hΓ rfl dX5_makeCanonical_21) (xn_int _) (hP0 _ (xl_fin e hp))
def F_X5_isRow (p1 : Int32) (σ : xM_S) : Int32 :=
 (F_X5_isIn p1.toInt64 0 (((σ.2 1 0) - 1).toInt64))
set_option maxHeartbeats 4000000 in
theorem K_X5_isRow {g : xm_G} (hG : xm_Gw g) {h0 : xm_H} {m : Nat} {ad : Nat → Nat} (hM : xM_ok h0 m ad) (hB : xk_B g h0) (p1 : Int32) (σ : xM_S) {o : Int32} (e : F_X5_isRow p1 σ = o) {Q : xm_P} {X : xm_X} (hQ : Q (some (.int o)) (xMp h0 m ad σ)) : xm_Run g M_X5_isRow 2 [.ref m, .int p1] (xMp h0 m ad σ) 0 0 Q X := by
  refine xm_Run.of pn_StringTableauModel (Nat.le_of_ble_eq_true rfl) (fun Γ hΓ => ?_)
  obtain ⟨P0, hP0, hp⟩ : ∃ P : Int32 → Prop, (∀ o, P o → Q (some (.int o)) (xMp h0 m ad σ)) ∧ P o := ⟨fun o => Q (some (.int o)) (xMp h0 m ad σ), fun _ h => h, hQ⟩
  clear hQ
  show xm_W g Γ 0 [some (.ref m), some (.int p1)] [] (xMp h0 m ad σ) 0 0
  unfold F_X5_isRow at e
  refine xw_ild (show xm_Imp g Γ 0 (xi_ild 1 1) from xs_iload_n hΓ dX5_isRow_0) rfl ?_
  refine xw_i2l (show xm_Imp g Γ 1 (xi_i2l 2) from xs_i2l hΓ dX5_isRow_1) ?_
  refine xw_psh (v := (.long 0)) (show xm_Imp g Γ 2 (xi_psh (.long 0) 3) from xs_lconst hΓ dX5_isRow_2 (by decide)) ?_
  refine xw_ald (show xm_Imp g Γ 3 (xi_ald 0 4) from xs_aload_n hΓ dX5_isRow_3) rfl ?_
  refine xw_mga (k := 1) (show xm_Imp g Γ 4 (xi_get 4 1 7) from xs_get hG hΓ (ci := 4) (kf := 1) rfl (Nat.le_of_ble_eq_true rfl) q2851 dX5_isRow_4) (fun _ => rfl) ?_
  refine xw_psh (v := (.int (0))) (show xm_Imp g Γ 7 (xi_psh (.int (0)) 8) from xs_iconst hΓ dX5_isRow_7 (by decide)) ?_
  refine xw_mial (k := 1) (j := 0) (v := (σ.2 1 0)) (show xm_Imp g Γ 8 (xi_ial 9) from xs_ial hG hΓ dX5_isRow_8) hM (by decide) rfl rfl rfl ?_
  refine xw_psh (v := (.int (1))) (show xm_Imp g Γ 9 (xi_psh (.int (1)) 10) from xs_iconst hΓ dX5_isRow_9 (by decide)) ?_
  refine xw_ii (show xm_Imp g Γ 10 (xi_ii (fun x y => x - y) 11) from xs_isub hΓ dX5_isRow_10) ?_
  refine xw_i2l (show xm_Imp g Γ 11 (xi_i2l 12) from xs_i2l hΓ dX5_isRow_11) ?_
  refine xw_sv3 (show xm_Imp g Γ 12 (xi_inv g M_X5_isIn 1 3 15) from xs_invS hG hΓ k_X5_isIn rfl q2996 q2997 dX5_isRow_12) rfl (fun Q X hQ => K_X5_isIn hG p1.toInt64 0 (((σ.2 1 0) - 1).toInt64) rfl hQ) ?_
  exact xw_iret (show xm_Imp g Γ 15 (xi_iret .boolean _) from xs_ireturn hΓ rfl dX5_isRow_15) (b_X5_isIn p1.toInt64 0 (((σ.2 1 0) - 1).toInt64)) (hP0 _ (xl_finV e hp))
theorem b_X5_isRow (p1 : Int32) (σ : xM_S) : narrow .boolean (.int (F_X5_isRow p1 σ)) = .int (F_X5_isRow p1 σ) := by
  unfold F_X5_isRow
  (repeat' split) <;> first | with_reducible exact xb_n0 | with_reducible exact xb_n1 | with_reducible exact b_X5_isIn _ _ _
noncomputable def F_X5_ofRow (p1 : Int32) (p2 : Int32) (σ : xM_S) : Option (Int32) :=
 (if p2 = 2 then
 xo_b (xa_ix 530 (22 + p1)) (fun j1 =>
 (if (σ.2 1 j1) = 1 then
 some ((-1)) else
 some (1))) else
 (if p2 = 0 then
 xo_b (xa_ix 530 (6 + p1)) (fun j2 =>
 some ((σ.2 1 j2))) else
 xo_b (xa_ix 530 (14 + p1)) (fun j3 =>
 some ((σ.2 1 j3)))))
set_option maxHeartbeats 4000000 in
theorem K_X5_ofRow {g : xm_G} (hG : xm_Gw g) {h0 : xm_H} {m : Nat} {ad : Nat → Nat} (hM : xM_ok h0 m ad) (hB : xk_B g h0) (p1 : Int32) (p2 : Int32) (σ : xM_S) {o : Int32} (e : F_X5_ofRow p1 p2 σ = some o) {Q : xm_P} {X : xm_X} (hQ : Q (some (.int o)) (xMp h0 m ad σ)) : xm_Run g M_X5_ofRow 1 [.ref m, .int p1, .int p2] (xMp h0 m ad σ) 0 0 Q X := by
  refine xm_Run.of pn_StringTableauModel (Nat.le_of_ble_eq_true rfl) (fun Γ hΓ => ?_)
  obtain ⟨P0, hP0, hp⟩ : ∃ P : Int32 → Prop, (∀ o, P o → Q (some (.int o)) (xMp h0 m ad σ)) ∧ P o := ⟨fun o => Q (some (.int o)) (xMp h0 m ad σ), fun _ h => h, hQ⟩
  clear hQ
  show xm_W g Γ 0 [some (.ref m), some (.int p1), some (.int p2)] [] (xMp h0 m ad σ) 0 0
  unfold F_X5_ofRow at e
  refine xw_ild (show xm_Imp g Γ 0 (xi_ild 2 1) from xs_iload_n hΓ dX5_ofRow_0) rfl ?_
  refine xw_psh (v := (.int (2))) (show xm_Imp g Γ 1 (xi_psh (.int (2)) 2) from xs_iconst hΓ dX5_ofRow_1 (by decide)) ?_
  refine xw_ic (show xm_Imp g Γ 2 (xi_ic (fun x y => x = y) 5 24) from xs_icmp_ne hΓ dX5_ofRow_2 (by decide)) (fun c => ?_) (fun c => ?_)
  · rw [if_pos c] at e
    refine xw_ald (show xm_Imp g Γ 5 (xi_ald 0 6) from xs_aload_n hΓ dX5_ofRow_5) rfl ?_
    refine xw_mga (k := 1) (show xm_Imp g Γ 6 (xi_get 4 1 9) from xs_get hG hΓ (ci := 4) (kf := 1) rfl (Nat.le_of_ble_eq_true rfl) q2851 dX5_ofRow_6) (fun _ => rfl) ?_
    refine xw_psh (v := (.int (22))) (show xm_Imp g Γ 9 (xi_psh (.int (22)) 11) from xs_bipush hΓ dX5_ofRow_9 (by decide)) ?_
    refine xw_ild (show xm_Imp g Γ 11 (xi_ild 1 12) from xs_iload_n hΓ dX5_ofRow_11) rfl ?_
    refine xw_ii (show xm_Imp g Γ 12 (xi_ii (fun x y => x + y) 13) from xs_iadd hΓ dX5_ofRow_12) ?_
    obtain ⟨j1, e1, e⟩ := xo_b_s e
    refine xw_mial (k := 1) (v := (σ.2 1 j1)) (show xm_Imp g Γ 13 (xi_ial 14) from xs_ial hG hΓ dX5_ofRow_13) hM (by decide) rfl e1 rfl ?_
    refine xw_psh (v := (.int (1))) (show xm_Imp g Γ 14 (xi_psh (.int (1)) 15) from xs_iconst hΓ dX5_ofRow_14 (by decide)) ?_
    refine xw_ic (show xm_Imp g Γ 15 (xi_ic (fun x y => x = y) 18 22) from xs_icmp_ne hΓ dX5_ofRow_15 (by decide)) (fun c => ?_) (fun c => ?_)
    · rw [if_pos c] at e
      refine xw_psh (v := (.int (-1))) (show xm_Imp g Γ 18 (xi_psh (.int (-1)) 19) from xs_iconst hΓ dX5_ofRow_18 (by decide)) ?_
      refine xw_goto (show xm_Imp g Γ 19 (xi_goto 23) from xs_goto hΓ dX5_ofRow_19 (by decide)) ?_
      exact xw_iret (show xm_Imp g Γ 23 (xi_iret .int _) from xs_ireturn hΓ rfl dX5_ofRow_23) (xn_int _) (hP0 _ (xl_fin e hp))
    · rw [if_neg c] at e
      refine xw_psh (v := (.int (1))) (show xm_Imp g Γ 22 (xi_psh (.int (1)) 23) from xs_iconst hΓ dX5_ofRow_22 (by decide)) ?_
      exact xw_iret (show xm_Imp g Γ 23 (xi_iret .int _) from xs_ireturn hΓ rfl dX5_ofRow_23) (xn_int _) (hP0 _ (xl_fin e hp))
  · rw [if_neg c] at e
    refine xw_ild (show xm_Imp g Γ 24 (xi_ild 2 25) from xs_iload_n hΓ dX5_ofRow_24) rfl ?_
    refine xw_if (show xm_Imp g Γ 25 (xi_if (fun x => x = 0) 28 40) from xs_if_ne hΓ dX5_ofRow_25 (by decide)) (fun c => ?_) (fun c => ?_)
    · rw [if_pos c] at e
      refine xw_ald (show xm_Imp g Γ 28 (xi_ald 0 29) from xs_aload_n hΓ dX5_ofRow_28) rfl ?_
      refine xw_mga (k := 1) (show xm_Imp g Γ 29 (xi_get 4 1 32) from xs_get hG hΓ (ci := 4) (kf := 1) rfl (Nat.le_of_ble_eq_true rfl) q2851 dX5_ofRow_29) (fun _ => rfl) ?_
      refine xw_psh (v := (.int (6))) (show xm_Imp g Γ 32 (xi_psh (.int (6)) 34) from xs_bipush hΓ dX5_ofRow_32 (by decide)) ?_
      refine xw_ild (show xm_Imp g Γ 34 (xi_ild 1 35) from xs_iload_n hΓ dX5_ofRow_34) rfl ?_
      refine xw_ii (show xm_Imp g Γ 35 (xi_ii (fun x y => x + y) 36) from xs_iadd hΓ dX5_ofRow_35) ?_
      obtain ⟨j2, e1, e⟩ := xo_b_s e
      refine xw_mial (k := 1) (v := (σ.2 1 j2)) (show xm_Imp g Γ 36 (xi_ial 37) from xs_ial hG hΓ dX5_ofRow_36) hM (by decide) rfl e1 rfl ?_
      refine xw_goto (show xm_Imp g Γ 37 (xi_goto 49) from xs_goto hΓ dX5_ofRow_37 (by decide)) ?_
      exact xw_iret (show xm_Imp g Γ 49 (xi_iret .int _) from xs_ireturn hΓ rfl dX5_ofRow_49) (xn_int _) (hP0 _ (xl_fin e hp))
    · rw [if_neg c] at e
      refine xw_ald (show xm_Imp g Γ 40 (xi_ald 0 41) from xs_aload_n hΓ dX5_ofRow_40) rfl ?_
      refine xw_mga (k := 1) (show xm_Imp g Γ 41 (xi_get 4 1 44) from xs_get hG hΓ (ci := 4) (kf := 1) rfl (Nat.le_of_ble_eq_true rfl) q2851 dX5_ofRow_41) (fun _ => rfl) ?_
      refine xw_psh (v := (.int (14))) (show xm_Imp g Γ 44 (xi_psh (.int (14)) 46) from xs_bipush hΓ dX5_ofRow_44 (by decide)) ?_
      refine xw_ild (show xm_Imp g Γ 46 (xi_ild 1 47) from xs_iload_n hΓ dX5_ofRow_46) rfl ?_
      refine xw_ii (show xm_Imp g Γ 47 (xi_ii (fun x y => x + y) 48) from xs_iadd hΓ dX5_ofRow_47) ?_
      obtain ⟨j3, e1, e⟩ := xo_b_s e
      refine xw_mial (k := 1) (v := (σ.2 1 j3)) (show xm_Imp g Γ 48 (xi_ial 49) from xs_ial hG hΓ dX5_ofRow_48) hM (by decide) rfl e1 rfl ?_
      exact xw_iret (show xm_Imp g Γ 49 (xi_iret .int _) from xs_ireturn hΓ rfl dX5_ofRow_49) (xn_int _) (hP0 _ (xl_fin e hp))
noncomputable def B_X5_canonical_26 (l1 : Int32) (l2 : Int32) (s1 : Int32) (σ : xM_S) : Option (Int32 × xM_S) :=
 xo_b (F_X5_is s1 σ) (fun v1 =>
 (if v1.1 = 0 then
 some ((0, v1.2)) else
 xo_b (F_X5_copies 1 3 v1.2) (fun v2 =>
 xo_b (F_X5_straightens v2) (fun v3 =>
 xo_b (F_X5_ofRow l1 l2 v3) (fun v4 =>
 xo_b (F_X5_copies 3 1 v3) (fun v5 =>
 some ((v4, v5))))))))
noncomputable def F_X5_canonical (p1 : Int32) (p2 : Int32) (σ : xM_S) : Option (Int32 × xM_S) :=
 B_X5_canonical_26 p1 p2 (if (F_X5_isRow p1 σ) = 0 then 0 else (if (F_X5_isIn p2.toInt64 0 2) = 0 then 0 else 1)) σ
set_option maxHeartbeats 4000000 in
theorem K_X5_canonical {g : xm_G} (hG : xm_Gw g) {h0 : xm_H} {m : Nat} {ad : Nat → Nat} (hM : xM_ok h0 m ad) (hB : xk_B g h0) (p1 : Int32) (p2 : Int32) (σ : xM_S) {o : Int32 × xM_S} (e : F_X5_canonical p1 p2 σ = some o) {Q : xm_P} {X : xm_X} (hQ : Q (some (.int o.1)) (xMp h0 m ad o.2)) : xm_Run g M_X5_canonical 8 [.ref m, .int p1, .int p2] (xMp h0 m ad σ) 0 0 Q X := by
  refine xm_Run.of pn_StringTableauModel (Nat.le_of_ble_eq_true rfl) (fun Γ hΓ => ?_)
  obtain ⟨P0, hP0, hp⟩ : ∃ P : Int32 × xM_S → Prop, (∀ o, P o → Q (some (.int o.1)) (xMp h0 m ad o.2)) ∧ P o := ⟨fun o => Q (some (.int o.1)) (xMp h0 m ad o.2), fun _ h => h, hQ⟩
  clear hQ
  show xm_W g Γ 0 [some (.ref m), some (.int p1), some (.int p2), none] [] (xMp h0 m ad σ) 0 0
  have hB_26 : ∀ (l1 : Int32) (l2 : Int32) (s1 : Int32) (σ : xM_S) (o : Int32 × xM_S), B_X5_canonical_26 l1 l2 s1 σ = some o → P0 o → xm_W g Γ 26 [some (.ref m), some (.int l1), some (.int l2), none] [.int s1, .ref m] (xMp h0 m ad σ) 0 0 := by
    intro l1 l2 s1 σ o e hp
    unfold B_X5_canonical_26 at e
    obtain ⟨v1, e1, e⟩ := xo_b_s e
    refine xw_mv1 (show xm_Imp g Γ 26 (xi_vir g 4 M_X5_is 1 1 29) from xs_invV hG hΓ k_X5_is rfl (ci := 4) rfl q2986 q2988 qs46 dX5_canonical_26) rfl (fun Q X hQ => K_X5_is hG hM hB s1 σ e1 hQ) ?_
    refine xw_if (show xm_Imp g Γ 29 (xi_if (fun x => x = 0) 32 34) from xs_if_ne hΓ dX5_canonical_29 (by decide)) (fun c => ?_) (fun c => ?_)
    · rw [if_pos c] at e
      refine xw_psh (v := (.int (0))) (show xm_Imp g Γ 32 (xi_psh (.int (0)) 33) from xs_iconst hΓ dX5_canonical_32 (by decide)) ?_
      exact xw_iret (show xm_Imp g Γ 33 (xi_iret .int _) from xs_ireturn hΓ rfl dX5_canonical_33) (xn_int _) (hP0 _ (xl_fin e hp))
    · rw [if_neg c] at e
      refine xw_ald (show xm_Imp g Γ 34 (xi_ald 0 35) from xs_aload_n hΓ dX5_canonical_34) rfl ?_
      refine xw_mga (k := 1) (show xm_Imp g Γ 35 (xi_get 4 1 38) from xs_get hG hΓ (ci := 4) (kf := 1) rfl (Nat.le_of_ble_eq_true rfl) q2851 dX5_canonical_35) (fun _ => rfl) ?_
      refine xw_ald (show xm_Imp g Γ 38 (xi_ald 0 39) from xs_aload_n hΓ dX5_canonical_38) rfl ?_
      refine xw_mga (k := 3) (show xm_Imp g Γ 39 (xi_get 4 3 42) from xs_get hG hΓ (ci := 4) (kf := 3) rfl (Nat.le_of_ble_eq_true rfl) q2853 dX5_canonical_39) (fun _ => rfl) ?_
      obtain ⟨v2, e1, e⟩ := xo_b_s e
      refine xw_su2 (show xm_Imp g Γ 42 (xi_inv g M_X5_copies 1 2 45) from xs_invS hG hΓ k_X5_copies rfl q3011 q3012 dX5_canonical_42) rfl (fun Q X hQ => K_X5_copies hG hM hB 1 3 (by decide) (by decide) v1.2 e1 hQ) ?_
      refine xw_ald (show xm_Imp g Γ 45 (xi_ald 0 46) from xs_aload_n hΓ dX5_canonical_45) rfl ?_
      obtain ⟨v3, e1, e⟩ := xo_b_s e
      refine xw_mu0 (show xm_Imp g Γ 46 (xi_vir g 4 M_X5_straightens 7 0 49) from xs_invV hG hΓ k_X5_straightens rfl (ci := 4) rfl q3272 q3274 qs93 dX5_canonical_46) rfl (fun Q X hQ => K_X5_straightens hG hM hB v2 e1 hQ) ?_
      refine xw_ald (show xm_Imp g Γ 49 (xi_ald 0 50) from xs_aload_n hΓ dX5_canonical_49) rfl ?_
      refine xw_ild (show xm_Imp g Γ 50 (xi_ild 1 51) from xs_iload_n hΓ dX5_canonical_50) rfl ?_
      refine xw_ild (show xm_Imp g Γ 51 (xi_ild 2 52) from xs_iload_n hΓ dX5_canonical_51) rfl ?_
      obtain ⟨v4, e1, e⟩ := xo_b_s e
      refine xw_mv2 (show xm_Imp g Γ 52 (xi_vir g 4 M_X5_ofRow 1 2 55) from xs_invV hG hΓ k_X5_ofRow rfl (ci := 4) rfl q3293 q3295 qs97 dX5_canonical_52) rfl (fun Q X hQ => K_X5_ofRow hG hM hB l1 l2 v3 e1 hQ) ?_
      refine xw_ist (ls' := [some (.ref m), some (.int l1), some (.int l2), some (.int v4)]) (show xm_Imp g Γ 55 (xi_ist 3 56) from xs_istore_n hΓ dX5_canonical_55 (Nat.le_of_ble_eq_true rfl)) rfl ?_
      refine xw_ald (show xm_Imp g Γ 56 (xi_ald 0 57) from xs_aload_n hΓ dX5_canonical_56) rfl ?_
      refine xw_mga (k := 3) (show xm_Imp g Γ 57 (xi_get 4 3 60) from xs_get hG hΓ (ci := 4) (kf := 3) rfl (Nat.le_of_ble_eq_true rfl) q2853 dX5_canonical_57) (fun _ => rfl) ?_
      refine xw_ald (show xm_Imp g Γ 60 (xi_ald 0 61) from xs_aload_n hΓ dX5_canonical_60) rfl ?_
      refine xw_mga (k := 1) (show xm_Imp g Γ 61 (xi_get 4 1 64) from xs_get hG hΓ (ci := 4) (kf := 1) rfl (Nat.le_of_ble_eq_true rfl) q2851 dX5_canonical_61) (fun _ => rfl) ?_
      obtain ⟨v5, e1, e⟩ := xo_b_s e
      refine xw_su2 (show xm_Imp g Γ 64 (xi_inv g M_X5_copies 1 2 67) from xs_invS hG hΓ k_X5_copies rfl q3011 q3012 dX5_canonical_64) rfl (fun Q X hQ => K_X5_copies hG hM hB 3 1 (by decide) (by decide) v3 e1 hQ) ?_
      refine xw_ild (show xm_Imp g Γ 67 (xi_ild 3 68) from xs_iload_n hΓ dX5_canonical_67) rfl ?_
      exact xw_iret (show xm_Imp g Γ 68 (xi_iret .int _) from xs_ireturn hΓ rfl dX5_canonical_68) (xn_int _) (hP0 _ (xl_fin e hp))
  unfold F_X5_canonical at e
  refine xw_ald (show xm_Imp g Γ 0 (xi_ald 0 1) from xs_aload_n hΓ dX5_canonical_0) rfl ?_
  refine xw_ald (show xm_Imp g Γ 1 (xi_ald 0 2) from xs_aload_n hΓ dX5_canonical_1) rfl ?_
  refine xw_ild (show xm_Imp g Γ 2 (xi_ild 1 3) from xs_iload_n hΓ dX5_canonical_2) rfl ?_
  refine xw_mv1 (show xm_Imp g Γ 3 (xi_vir g 4 M_X5_isRow 2 1 6) from xs_invV hG hΓ k_X5_isRow rfl (ci := 4) rfl q3288 q3290 qs96 dX5_canonical_3) rfl (fun Q X hQ => K_X5_isRow hG hM hB p1 σ rfl hQ) ?_
  refine xw_if (show xm_Imp g Γ 6 (xi_if (fun x => x = 0) 25 9) from xs_if_eq hΓ dX5_canonical_6 (by decide)) (fun c => ?_) (fun c => ?_)
  · rw [if_pos c] at e
    refine xw_psh (v := (.int (0))) (show xm_Imp g Γ 25 (xi_psh (.int (0)) 26) from xs_iconst hΓ dX5_canonical_25 (by decide)) ?_
    exact hB_26 _ _ _ _ _ e hp
  · rw [if_neg c] at e
    refine xw_ild (show xm_Imp g Γ 9 (xi_ild 2 10) from xs_iload_n hΓ dX5_canonical_9) rfl ?_
    refine xw_i2l (show xm_Imp g Γ 10 (xi_i2l 11) from xs_i2l hΓ dX5_canonical_10) ?_
    refine xw_psh (v := (.long 0)) (show xm_Imp g Γ 11 (xi_psh (.long 0) 12) from xs_lconst hΓ dX5_canonical_11 (by decide)) ?_
    refine xw_psh (v := (.long (2))) (show xm_Imp g Γ 12 (xi_psh (.long (2)) 15) from xs_ldc2 hG hΓ q3292 dX5_canonical_12) ?_
    refine xw_sv3 (show xm_Imp g Γ 15 (xi_inv g M_X5_isIn 1 3 18) from xs_invS hG hΓ k_X5_isIn rfl q2996 q2997 dX5_canonical_15) rfl (fun Q X hQ => K_X5_isIn hG p2.toInt64 0 2 rfl hQ) ?_
    refine xw_if (show xm_Imp g Γ 18 (xi_if (fun x => x = 0) 25 21) from xs_if_eq hΓ dX5_canonical_18 (by decide)) (fun c => ?_) (fun c => ?_)
    · rw [if_pos c] at e
      refine xw_psh (v := (.int (0))) (show xm_Imp g Γ 25 (xi_psh (.int (0)) 26) from xs_iconst hΓ dX5_canonical_25 (by decide)) ?_
      exact hB_26 _ _ _ _ _ e hp
    · rw [if_neg c] at e
      refine xw_psh (v := (.int (1))) (show xm_Imp g Γ 21 (xi_psh (.int (1)) 22) from xs_iconst hΓ dX5_canonical_21 (by decide)) ?_
      refine xw_goto (show xm_Imp g Γ 22 (xi_goto 26) from xs_goto hΓ dX5_canonical_22 (by decide)) ?_
      exact hB_26 _ _ _ _ _ e hp
noncomputable def B_X5_letter_22 (l1 : Int32) (l2 : Int32) (s1 : Int32) (σ : xM_S) : Option (Int32 × xM_S) :=
 xo_b (F_X5_is s1 σ) (fun v1 =>
 (if v1.1 = 0 then
 some ((0, v1.2)) else
 xo_b (xa_ix 530 (6 + l1)) (fun j2 =>
 xo_b (xa_ix 530 (14 + l1)) (fun j3 =>
 some (((F_X5_letterOf (v1.2.2 1 j2) (v1.2.2 1 j3) l2), v1.2))))))
noncomputable def F_X5_letter (p1 : Int32) (p2 : Int32) (σ : xM_S) : Option (Int32 × xM_S) :=
 B_X5_letter_22 p1 p2 (if (F_X5_isRow p1 σ) = 0 then 0 else (if (F_X5_isQubit p2 σ) = 0 then 0 else 1)) σ
set_option maxHeartbeats 4000000 in
theorem K_X5_letter {g : xm_G} (hG : xm_Gw g) {h0 : xm_H} {m : Nat} {ad : Nat → Nat} (hM : xM_ok h0 m ad) (hB : xk_B g h0) (p1 : Int32) (p2 : Int32) (σ : xM_S) {o : Int32 × xM_S} (e : F_X5_letter p1 p2 σ = some o) {Q : xm_P} {X : xm_X} (hQ : Q (some (.int o.1)) (xMp h0 m ad o.2)) : xm_Run g M_X5_letter 3 [.ref m, .int p1, .int p2] (xMp h0 m ad σ) 0 0 Q X := by
  refine xm_Run.of pn_StringTableauModel (Nat.le_of_ble_eq_true rfl) (fun Γ hΓ => ?_)
  obtain ⟨P0, hP0, hp⟩ : ∃ P : Int32 × xM_S → Prop, (∀ o, P o → Q (some (.int o.1)) (xMp h0 m ad o.2)) ∧ P o := ⟨fun o => Q (some (.int o.1)) (xMp h0 m ad o.2), fun _ h => h, hQ⟩
  clear hQ
  show xm_W g Γ 0 [some (.ref m), some (.int p1), some (.int p2)] [] (xMp h0 m ad σ) 0 0
  have hB_22 : ∀ (l1 : Int32) (l2 : Int32) (s1 : Int32) (σ : xM_S) (o : Int32 × xM_S), B_X5_letter_22 l1 l2 s1 σ = some o → P0 o → xm_W g Γ 22 [some (.ref m), some (.int l1), some (.int l2)] [.int s1, .ref m] (xMp h0 m ad σ) 0 0 := by
    intro l1 l2 s1 σ o e hp
    unfold B_X5_letter_22 at e
    obtain ⟨v1, e1, e⟩ := xo_b_s e
    refine xw_mv1 (show xm_Imp g Γ 22 (xi_vir g 4 M_X5_is 1 1 25) from xs_invV hG hΓ k_X5_is rfl (ci := 4) rfl q2986 q2988 qs46 dX5_letter_22) rfl (fun Q X hQ => K_X5_is hG hM hB s1 σ e1 hQ) ?_
    refine xw_if (show xm_Imp g Γ 25 (xi_if (fun x => x = 0) 53 28) from xs_if_eq hΓ dX5_letter_25 (by decide)) (fun c => ?_) (fun c => ?_)
    · rw [if_pos c] at e
      refine xw_psh (v := (.int (0))) (show xm_Imp g Γ 53 (xi_psh (.int (0)) 54) from xs_iconst hΓ dX5_letter_53 (by decide)) ?_
      exact xw_iret (show xm_Imp g Γ 54 (xi_iret .int _) from xs_ireturn hΓ rfl dX5_letter_54) (xn_int _) (hP0 _ (xl_fin e hp))
    · rw [if_neg c] at e
      refine xw_ald (show xm_Imp g Γ 28 (xi_ald 0 29) from xs_aload_n hΓ dX5_letter_28) rfl ?_
      refine xw_mga (k := 1) (show xm_Imp g Γ 29 (xi_get 4 1 32) from xs_get hG hΓ (ci := 4) (kf := 1) rfl (Nat.le_of_ble_eq_true rfl) q2851 dX5_letter_29) (fun _ => rfl) ?_
      refine xw_psh (v := (.int (6))) (show xm_Imp g Γ 32 (xi_psh (.int (6)) 34) from xs_bipush hΓ dX5_letter_32 (by decide)) ?_
      refine xw_ild (show xm_Imp g Γ 34 (xi_ild 1 35) from xs_iload_n hΓ dX5_letter_34) rfl ?_
      refine xw_ii (show xm_Imp g Γ 35 (xi_ii (fun x y => x + y) 36) from xs_iadd hΓ dX5_letter_35) ?_
      obtain ⟨j2, e1, e⟩ := xo_b_s e
      refine xw_mial (k := 1) (v := (v1.2.2 1 j2)) (show xm_Imp g Γ 36 (xi_ial 37) from xs_ial hG hΓ dX5_letter_36) hM (by decide) rfl e1 rfl ?_
      refine xw_ald (show xm_Imp g Γ 37 (xi_ald 0 38) from xs_aload_n hΓ dX5_letter_37) rfl ?_
      refine xw_mga (k := 1) (show xm_Imp g Γ 38 (xi_get 4 1 41) from xs_get hG hΓ (ci := 4) (kf := 1) rfl (Nat.le_of_ble_eq_true rfl) q2851 dX5_letter_38) (fun _ => rfl) ?_
      refine xw_psh (v := (.int (14))) (show xm_Imp g Γ 41 (xi_psh (.int (14)) 43) from xs_bipush hΓ dX5_letter_41 (by decide)) ?_
      refine xw_ild (show xm_Imp g Γ 43 (xi_ild 1 44) from xs_iload_n hΓ dX5_letter_43) rfl ?_
      refine xw_ii (show xm_Imp g Γ 44 (xi_ii (fun x y => x + y) 45) from xs_iadd hΓ dX5_letter_44) ?_
      obtain ⟨j3, e1, e⟩ := xo_b_s e
      refine xw_mial (k := 1) (v := (v1.2.2 1 j3)) (show xm_Imp g Γ 45 (xi_ial 46) from xs_ial hG hΓ dX5_letter_45) hM (by decide) rfl e1 rfl ?_
      refine xw_ild (show xm_Imp g Γ 46 (xi_ild 2 47) from xs_iload_n hΓ dX5_letter_46) rfl ?_
      refine xw_sv3 (show xm_Imp g Γ 47 (xi_inv g M_X5_letterOf 2 3 50) from xs_invS hG hΓ k_X5_letterOf rfl q3034 q3035 dX5_letter_47) rfl (fun Q X hQ => K_X5_letterOf hG (v1.2.2 1 j2) (v1.2.2 1 j3) l2 rfl hQ) ?_
      refine xw_goto (show xm_Imp g Γ 50 (xi_goto 54) from xs_goto hΓ dX5_letter_50 (by decide)) ?_
      exact xw_iret (show xm_Imp g Γ 54 (xi_iret .int _) from xs_ireturn hΓ rfl dX5_letter_54) (xn_int _) (hP0 _ (xl_fin e hp))
  unfold F_X5_letter at e
  refine xw_ald (show xm_Imp g Γ 0 (xi_ald 0 1) from xs_aload_n hΓ dX5_letter_0) rfl ?_
  refine xw_ald (show xm_Imp g Γ 1 (xi_ald 0 2) from xs_aload_n hΓ dX5_letter_1) rfl ?_
  refine xw_ild (show xm_Imp g Γ 2 (xi_ild 1 3) from xs_iload_n hΓ dX5_letter_2) rfl ?_
  refine xw_mv1 (show xm_Imp g Γ 3 (xi_vir g 4 M_X5_isRow 2 1 6) from xs_invV hG hΓ k_X5_isRow rfl (ci := 4) rfl q3288 q3290 qs96 dX5_letter_3) rfl (fun Q X hQ => K_X5_isRow hG hM hB p1 σ rfl hQ) ?_
  refine xw_if (show xm_Imp g Γ 6 (xi_if (fun x => x = 0) 21 9) from xs_if_eq hΓ dX5_letter_6 (by decide)) (fun c => ?_) (fun c => ?_)
  · rw [if_pos c] at e
    refine xw_psh (v := (.int (0))) (show xm_Imp g Γ 21 (xi_psh (.int (0)) 22) from xs_iconst hΓ dX5_letter_21 (by decide)) ?_
    exact hB_22 _ _ _ _ _ e hp
  · rw [if_neg c] at e
    refine xw_ald (show xm_Imp g Γ 9 (xi_ald 0 10) from xs_aload_n hΓ dX5_letter_9) rfl ?_
    refine xw_ild (show xm_Imp g Γ 10 (xi_ild 2 11) from xs_iload_n hΓ dX5_letter_10) rfl ?_
    refine xw_mv1 (show xm_Imp g Γ 11 (xi_vir g 4 M_X5_isQubit 2 1 14) from xs_invV hG hΓ k_X5_isQubit rfl (ci := 4) rfl q2999 q3001 qs47 dX5_letter_11) rfl (fun Q X hQ => K_X5_isQubit hG hM hB p2 σ rfl hQ) ?_
    refine xw_if (show xm_Imp g Γ 14 (xi_if (fun x => x = 0) 21 17) from xs_if_eq hΓ dX5_letter_14 (by decide)) (fun c => ?_) (fun c => ?_)
    · rw [if_pos c] at e
      refine xw_psh (v := (.int (0))) (show xm_Imp g Γ 21 (xi_psh (.int (0)) 22) from xs_iconst hΓ dX5_letter_21 (by decide)) ?_
      exact hB_22 _ _ _ _ _ e hp
    · rw [if_neg c] at e
      refine xw_psh (v := (.int (1))) (show xm_Imp g Γ 17 (xi_psh (.int (1)) 18) from xs_iconst hΓ dX5_letter_17 (by decide)) ?_
      refine xw_goto (show xm_Imp g Γ 18 (xi_goto 22) from xs_goto hΓ dX5_letter_18 (by decide)) ?_
      exact hB_22 _ _ _ _ _ e hp
noncomputable def B_X5_row_26 (l1 : Int32) (l2 : Int32) (s1 : Int32) (σ : xM_S) : Option (Int32 × xM_S) :=
 xo_b (F_X5_is s1 σ) (fun v1 =>
 (if v1.1 = 0 then
 some ((0, v1.2)) else
 xo_b (F_X5_ofRow l1 l2 v1.2) (fun v2 =>
 some ((v2, v1.2)))))
noncomputable def F_X5_row (p1 : Int32) (p2 : Int32) (σ : xM_S) : Option (Int32 × xM_S) :=
 B_X5_row_26 p1 p2 (if (F_X5_isRow p1 σ) = 0 then 0 else (if (F_X5_isIn p2.toInt64 0 2) = 0 then 0 else 1)) σ
set_option maxHeartbeats 4000000 in
theorem K_X5_row {g : xm_G} (hG : xm_Gw g) {h0 : xm_H} {m : Nat} {ad : Nat → Nat} (hM : xM_ok h0 m ad) (hB : xk_B g h0) (p1 : Int32) (p2 : Int32) (σ : xM_S) {o : Int32 × xM_S} (e : F_X5_row p1 p2 σ = some o) {Q : xm_P} {X : xm_X} (hQ : Q (some (.int o.1)) (xMp h0 m ad o.2)) : xm_Run g M_X5_row 3 [.ref m, .int p1, .int p2] (xMp h0 m ad σ) 0 0 Q X := by
  refine xm_Run.of pn_StringTableauModel (Nat.le_of_ble_eq_true rfl) (fun Γ hΓ => ?_)
  obtain ⟨P0, hP0, hp⟩ : ∃ P : Int32 × xM_S → Prop, (∀ o, P o → Q (some (.int o.1)) (xMp h0 m ad o.2)) ∧ P o := ⟨fun o => Q (some (.int o.1)) (xMp h0 m ad o.2), fun _ h => h, hQ⟩
  clear hQ
  show xm_W g Γ 0 [some (.ref m), some (.int p1), some (.int p2)] [] (xMp h0 m ad σ) 0 0
  have hB_26 : ∀ (l1 : Int32) (l2 : Int32) (s1 : Int32) (σ : xM_S) (o : Int32 × xM_S), B_X5_row_26 l1 l2 s1 σ = some o → P0 o → xm_W g Γ 26 [some (.ref m), some (.int l1), some (.int l2)] [.int s1, .ref m] (xMp h0 m ad σ) 0 0 := by
    intro l1 l2 s1 σ o e hp
    unfold B_X5_row_26 at e
    obtain ⟨v1, e1, e⟩ := xo_b_s e
    refine xw_mv1 (show xm_Imp g Γ 26 (xi_vir g 4 M_X5_is 1 1 29) from xs_invV hG hΓ k_X5_is rfl (ci := 4) rfl q2986 q2988 qs46 dX5_row_26) rfl (fun Q X hQ => K_X5_is hG hM hB s1 σ e1 hQ) ?_
    refine xw_if (show xm_Imp g Γ 29 (xi_if (fun x => x = 0) 41 32) from xs_if_eq hΓ dX5_row_29 (by decide)) (fun c => ?_) (fun c => ?_)
    · rw [if_pos c] at e
      refine xw_psh (v := (.int (0))) (show xm_Imp g Γ 41 (xi_psh (.int (0)) 42) from xs_iconst hΓ dX5_row_41 (by decide)) ?_
      exact xw_iret (show xm_Imp g Γ 42 (xi_iret .int _) from xs_ireturn hΓ rfl dX5_row_42) (xn_int _) (hP0 _ (xl_fin e hp))
    · rw [if_neg c] at e
      refine xw_ald (show xm_Imp g Γ 32 (xi_ald 0 33) from xs_aload_n hΓ dX5_row_32) rfl ?_
      refine xw_ild (show xm_Imp g Γ 33 (xi_ild 1 34) from xs_iload_n hΓ dX5_row_33) rfl ?_
      refine xw_ild (show xm_Imp g Γ 34 (xi_ild 2 35) from xs_iload_n hΓ dX5_row_34) rfl ?_
      obtain ⟨v2, e1, e⟩ := xo_b_s e
      refine xw_mv2 (show xm_Imp g Γ 35 (xi_vir g 4 M_X5_ofRow 1 2 38) from xs_invV hG hΓ k_X5_ofRow rfl (ci := 4) rfl q3293 q3295 qs97 dX5_row_35) rfl (fun Q X hQ => K_X5_ofRow hG hM hB l1 l2 v1.2 e1 hQ) ?_
      refine xw_goto (show xm_Imp g Γ 38 (xi_goto 42) from xs_goto hΓ dX5_row_38 (by decide)) ?_
      exact xw_iret (show xm_Imp g Γ 42 (xi_iret .int _) from xs_ireturn hΓ rfl dX5_row_42) (xn_int _) (hP0 _ (xl_fin e hp))
  unfold F_X5_row at e
  refine xw_ald (show xm_Imp g Γ 0 (xi_ald 0 1) from xs_aload_n hΓ dX5_row_0) rfl ?_
  refine xw_ald (show xm_Imp g Γ 1 (xi_ald 0 2) from xs_aload_n hΓ dX5_row_1) rfl ?_
  refine xw_ild (show xm_Imp g Γ 2 (xi_ild 1 3) from xs_iload_n hΓ dX5_row_2) rfl ?_
  refine xw_mv1 (show xm_Imp g Γ 3 (xi_vir g 4 M_X5_isRow 2 1 6) from xs_invV hG hΓ k_X5_isRow rfl (ci := 4) rfl q3288 q3290 qs96 dX5_row_3) rfl (fun Q X hQ => K_X5_isRow hG hM hB p1 σ rfl hQ) ?_
  refine xw_if (show xm_Imp g Γ 6 (xi_if (fun x => x = 0) 25 9) from xs_if_eq hΓ dX5_row_6 (by decide)) (fun c => ?_) (fun c => ?_)
  · rw [if_pos c] at e
    refine xw_psh (v := (.int (0))) (show xm_Imp g Γ 25 (xi_psh (.int (0)) 26) from xs_iconst hΓ dX5_row_25 (by decide)) ?_
    exact hB_26 _ _ _ _ _ e hp
  · rw [if_neg c] at e
    refine xw_ild (show xm_Imp g Γ 9 (xi_ild 2 10) from xs_iload_n hΓ dX5_row_9) rfl ?_
    refine xw_i2l (show xm_Imp g Γ 10 (xi_i2l 11) from xs_i2l hΓ dX5_row_10) ?_
    refine xw_psh (v := (.long 0)) (show xm_Imp g Γ 11 (xi_psh (.long 0) 12) from xs_lconst hΓ dX5_row_11 (by decide)) ?_
    refine xw_psh (v := (.long (2))) (show xm_Imp g Γ 12 (xi_psh (.long (2)) 15) from xs_ldc2 hG hΓ q3292 dX5_row_12) ?_
    refine xw_sv3 (show xm_Imp g Γ 15 (xi_inv g M_X5_isIn 1 3 18) from xs_invS hG hΓ k_X5_isIn rfl q2996 q2997 dX5_row_15) rfl (fun Q X hQ => K_X5_isIn hG p2.toInt64 0 2 rfl hQ) ?_
    refine xw_if (show xm_Imp g Γ 18 (xi_if (fun x => x = 0) 25 21) from xs_if_eq hΓ dX5_row_18 (by decide)) (fun c => ?_) (fun c => ?_)
    · rw [if_pos c] at e
      refine xw_psh (v := (.int (0))) (show xm_Imp g Γ 25 (xi_psh (.int (0)) 26) from xs_iconst hΓ dX5_row_25 (by decide)) ?_
      exact hB_26 _ _ _ _ _ e hp
    · rw [if_neg c] at e
      refine xw_psh (v := (.int (1))) (show xm_Imp g Γ 21 (xi_psh (.int (1)) 22) from xs_iconst hΓ dX5_row_21 (by decide)) ?_
      refine xw_goto (show xm_Imp g Γ 22 (xi_goto 26) from xs_goto hΓ dX5_row_22 (by decide)) ?_
      exact hB_26 _ _ _ _ _ e hp
noncomputable def B_X5_measured_56 (l1 : Int32) (s1 : Int32) (σ : xM_S) : Option (Int32 × xM_S) :=
 xo_b (xa_ix 530 (s1 + l1)) (fun j2 =>
 some (((σ.2 1 j2), σ)))
noncomputable def B_X5_measured_34 (l1 : Int32) (l2 : Int32) (s1 : Int32) (σ : xM_S) : Option (Int32 × xM_S) :=
 xo_b (F_X5_is s1 σ) (fun v1 =>
 (if v1.1 = 0 then
 some ((0, v1.2)) else
 B_X5_measured_56 l1 (if l2 = 0 then 30 else 130) v1.2))
noncomputable def F_X5_measured (p1 : Int32) (p2 : Int32) (σ : xM_S) : Option (Int32 × xM_S) :=
 B_X5_measured_34 p1 p2 (if (F_X5_isIn p1.toInt64 0 (((σ.2 1 4) - 1).toInt64)) = 0 then 0 else (if (F_X5_isIn p2.toInt64 0 1) = 0 then 0 else 1)) σ
set_option maxHeartbeats 4000000 in
theorem K_X5_measured {g : xm_G} (hG : xm_Gw g) {h0 : xm_H} {m : Nat} {ad : Nat → Nat} (hM : xM_ok h0 m ad) (hB : xk_B g h0) (p1 : Int32) (p2 : Int32) (σ : xM_S) {o : Int32 × xM_S} (e : F_X5_measured p1 p2 σ = some o) {Q : xm_P} {X : xm_X} (hQ : Q (some (.int o.1)) (xMp h0 m ad o.2)) : xm_Run g M_X5_measured 2 [.ref m, .int p1, .int p2] (xMp h0 m ad σ) 0 0 Q X := by
  refine xm_Run.of pn_StringTableauModel (Nat.le_of_ble_eq_true rfl) (fun Γ hΓ => ?_)
  obtain ⟨P0, hP0, hp⟩ : ∃ P : Int32 × xM_S → Prop, (∀ o, P o → Q (some (.int o.1)) (xMp h0 m ad o.2)) ∧ P o := ⟨fun o => Q (some (.int o.1)) (xMp h0 m ad o.2), fun _ h => h, hQ⟩
  clear hQ
  show xm_W g Γ 0 [some (.ref m), some (.int p1), some (.int p2)] [] (xMp h0 m ad σ) 0 0
  have hB_56 : ∀ (l1 : Int32) (s1 : Int32) (σ : xM_S) (o : Int32 × xM_S), B_X5_measured_56 l1 s1 σ = some o → P0 o → xm_W g Γ 56 [none, some (.int l1), none] [.int s1, .ref (ad 1)] (xMp h0 m ad σ) 0 0 := by
    intro l1 s1 σ o e hp
    unfold B_X5_measured_56 at e
    refine xw_ild (show xm_Imp g Γ 56 (xi_ild 1 57) from xs_iload_n hΓ dX5_measured_56) rfl ?_
    refine xw_ii (show xm_Imp g Γ 57 (xi_ii (fun x y => x + y) 58) from xs_iadd hΓ dX5_measured_57) ?_
    obtain ⟨j2, e1, e⟩ := xo_b_s e
    refine xw_mial (k := 1) (v := (σ.2 1 j2)) (show xm_Imp g Γ 58 (xi_ial 59) from xs_ial hG hΓ dX5_measured_58) hM (by decide) rfl e1 rfl ?_
    refine xw_goto (show xm_Imp g Γ 59 (xi_goto 63) from xs_goto hΓ dX5_measured_59 (by decide)) ?_
    exact xw_iret (show xm_Imp g Γ 63 (xi_iret .int _) from xs_ireturn hΓ rfl dX5_measured_63) (xn_int _) (hP0 _ (xl_fin e hp))
  have hB_34 : ∀ (l1 : Int32) (l2 : Int32) (s1 : Int32) (σ : xM_S) (o : Int32 × xM_S), B_X5_measured_34 l1 l2 s1 σ = some o → P0 o → xm_W g Γ 34 [some (.ref m), some (.int l1), some (.int l2)] [.int s1, .ref m] (xMp h0 m ad σ) 0 0 := by
    intro l1 l2 s1 σ o e hp
    unfold B_X5_measured_34 at e
    obtain ⟨v1, e1, e⟩ := xo_b_s e
    refine xw_mv1 (show xm_Imp g Γ 34 (xi_vir g 4 M_X5_is 1 1 37) from xs_invV hG hΓ k_X5_is rfl (ci := 4) rfl q2986 q2988 qs46 dX5_measured_34) rfl (fun Q X hQ => K_X5_is hG hM hB s1 σ e1 hQ) ?_
    refine xw_if (show xm_Imp g Γ 37 (xi_if (fun x => x = 0) 62 40) from xs_if_eq hΓ dX5_measured_37 (by decide)) (fun c => ?_) (fun c => ?_)
    · rw [if_pos c] at e
      refine xw_psh (v := (.int (0))) (show xm_Imp g Γ 62 (xi_psh (.int (0)) 63) from xs_iconst hΓ dX5_measured_62 (by decide)) ?_
      exact xw_iret (show xm_Imp g Γ 63 (xi_iret .int _) from xs_ireturn hΓ rfl dX5_measured_63) (xn_int _) (hP0 _ (xl_fin e hp))
    · rw [if_neg c] at e
      refine xw_ald (show xm_Imp g Γ 40 (xi_ald 0 41) from xs_aload_n hΓ dX5_measured_40) rfl ?_
      refine xw_mga (k := 1) (show xm_Imp g Γ 41 (xi_get 4 1 44) from xs_get hG hΓ (ci := 4) (kf := 1) rfl (Nat.le_of_ble_eq_true rfl) q2851 dX5_measured_41) (fun _ => rfl) ?_
      refine xw_ild (show xm_Imp g Γ 44 (xi_ild 2 45) from xs_iload_n hΓ dX5_measured_44) rfl ?_
      refine xw_if (show xm_Imp g Γ 45 (xi_if (fun x => x = 0) 48 53) from xs_if_ne hΓ dX5_measured_45 (by decide)) (fun c => ?_) (fun c => ?_)
      · rw [if_pos c] at e
        refine xw_psh (v := (.int (30))) (show xm_Imp g Γ 48 (xi_psh (.int (30)) 50) from xs_bipush hΓ dX5_measured_48 (by decide)) ?_
        refine xw_goto (show xm_Imp g Γ 50 (xi_goto 56) from xs_goto hΓ dX5_measured_50 (by decide)) ?_
        exact xm_lx (hB_56 _ _ _ _ e hp) (And.intro rfl (trivial))
      · rw [if_neg c] at e
        refine xw_psh (v := (.int (130))) (show xm_Imp g Γ 53 (xi_psh (.int (130)) 56) from xs_sipush hΓ dX5_measured_53 (by decide)) ?_
        exact xm_lx (hB_56 _ _ _ _ e hp) (And.intro rfl (trivial))
  unfold F_X5_measured at e
  refine xw_ald (show xm_Imp g Γ 0 (xi_ald 0 1) from xs_aload_n hΓ dX5_measured_0) rfl ?_
  refine xw_ild (show xm_Imp g Γ 1 (xi_ild 1 2) from xs_iload_n hΓ dX5_measured_1) rfl ?_
  refine xw_i2l (show xm_Imp g Γ 2 (xi_i2l 3) from xs_i2l hΓ dX5_measured_2) ?_
  refine xw_psh (v := (.long 0)) (show xm_Imp g Γ 3 (xi_psh (.long 0) 4) from xs_lconst hΓ dX5_measured_3 (by decide)) ?_
  refine xw_ald (show xm_Imp g Γ 4 (xi_ald 0 5) from xs_aload_n hΓ dX5_measured_4) rfl ?_
  refine xw_mga (k := 1) (show xm_Imp g Γ 5 (xi_get 4 1 8) from xs_get hG hΓ (ci := 4) (kf := 1) rfl (Nat.le_of_ble_eq_true rfl) q2851 dX5_measured_5) (fun _ => rfl) ?_
  refine xw_psh (v := (.int (4))) (show xm_Imp g Γ 8 (xi_psh (.int (4)) 9) from xs_iconst hΓ dX5_measured_8 (by decide)) ?_
  refine xw_mial (k := 1) (j := 4) (v := (σ.2 1 4)) (show xm_Imp g Γ 9 (xi_ial 10) from xs_ial hG hΓ dX5_measured_9) hM (by decide) rfl rfl rfl ?_
  refine xw_psh (v := (.int (1))) (show xm_Imp g Γ 10 (xi_psh (.int (1)) 11) from xs_iconst hΓ dX5_measured_10 (by decide)) ?_
  refine xw_ii (show xm_Imp g Γ 11 (xi_ii (fun x y => x - y) 12) from xs_isub hΓ dX5_measured_11) ?_
  refine xw_i2l (show xm_Imp g Γ 12 (xi_i2l 13) from xs_i2l hΓ dX5_measured_12) ?_
  refine xw_sv3 (show xm_Imp g Γ 13 (xi_inv g M_X5_isIn 1 3 16) from xs_invS hG hΓ k_X5_isIn rfl q2996 q2997 dX5_measured_13) rfl (fun Q X hQ => K_X5_isIn hG p1.toInt64 0 (((σ.2 1 4) - 1).toInt64) rfl hQ) ?_
  refine xw_if (show xm_Imp g Γ 16 (xi_if (fun x => x = 0) 33 19) from xs_if_eq hΓ dX5_measured_16 (by decide)) (fun c => ?_) (fun c => ?_)
  · rw [if_pos c] at e
    refine xw_psh (v := (.int (0))) (show xm_Imp g Γ 33 (xi_psh (.int (0)) 34) from xs_iconst hΓ dX5_measured_33 (by decide)) ?_
    exact hB_34 _ _ _ _ _ e hp
  · rw [if_neg c] at e
    refine xw_ild (show xm_Imp g Γ 19 (xi_ild 2 20) from xs_iload_n hΓ dX5_measured_19) rfl ?_
    refine xw_i2l (show xm_Imp g Γ 20 (xi_i2l 21) from xs_i2l hΓ dX5_measured_20) ?_
    refine xw_psh (v := (.long 0)) (show xm_Imp g Γ 21 (xi_psh (.long 0) 22) from xs_lconst hΓ dX5_measured_21 (by decide)) ?_
    refine xw_psh (v := (.long 1)) (show xm_Imp g Γ 22 (xi_psh (.long 1) 23) from xs_lconst hΓ dX5_measured_22 (by decide)) ?_
    refine xw_sv3 (show xm_Imp g Γ 23 (xi_inv g M_X5_isIn 1 3 26) from xs_invS hG hΓ k_X5_isIn rfl q2996 q2997 dX5_measured_23) rfl (fun Q X hQ => K_X5_isIn hG p2.toInt64 0 1 rfl hQ) ?_
    refine xw_if (show xm_Imp g Γ 26 (xi_if (fun x => x = 0) 33 29) from xs_if_eq hΓ dX5_measured_26 (by decide)) (fun c => ?_) (fun c => ?_)
    · rw [if_pos c] at e
      refine xw_psh (v := (.int (0))) (show xm_Imp g Γ 33 (xi_psh (.int (0)) 34) from xs_iconst hΓ dX5_measured_33 (by decide)) ?_
      exact hB_34 _ _ _ _ _ e hp
    · rw [if_neg c] at e
      refine xw_psh (v := (.int (1))) (show xm_Imp g Γ 29 (xi_psh (.int (1)) 30) from xs_iconst hΓ dX5_measured_29 (by decide)) ?_
      refine xw_goto (show xm_Imp g Γ 30 (xi_goto 34) from xs_goto hΓ dX5_measured_30 (by decide)) ?_
      exact hB_34 _ _ _ _ _ e hp
noncomputable def B_X5_commute_46 (σ : xM_S) : Option (Int32 × xM_S) :=
 some ((0, σ))
noncomputable def B_X5_commute_25 (l1 : Int32) (l2 : Int32) (l3 : Int32) (l4 : Int32) (s1 : Int32) (σ : xM_S) : Option (Int32 × xM_S) :=
 xo_b (F_X5_is s1 σ) (fun v1 =>
 (if v1.1 = 0 then
 B_X5_commute_46 v1.2 else
 xo_b (F_X5_doCommute l1 l2 l3 l4) (fun v2 =>
 (if v2 = 0 then
 B_X5_commute_46 v1.2 else
 some ((1, v1.2))))))
noncomputable def F_X5_commute (p1 : Int32) (p2 : Int32) (p3 : Int32) (p4 : Int32) (σ : xM_S) : Option (Int32 × xM_S) :=
 B_X5_commute_25 p1 p2 p3 p4 (if (F_X5_areMasks p1 p2 σ) = 0 then 0 else (if (F_X5_areMasks p3 p4 σ) = 0 then 0 else 1)) σ
set_option maxHeartbeats 4000000 in
theorem K_X5_commute {g : xm_G} (hG : xm_Gw g) {h0 : xm_H} {m : Nat} {ad : Nat → Nat} (hM : xM_ok h0 m ad) (hB : xk_B g h0) (p1 : Int32) (p2 : Int32) (p3 : Int32) (p4 : Int32) (σ : xM_S) {o : Int32 × xM_S} (e : F_X5_commute p1 p2 p3 p4 σ = some o) {Q : xm_P} {X : xm_X} (hQ : Q (some (.int o.1)) (xMp h0 m ad o.2)) : xm_Run g M_X5_commute 4 [.ref m, .int p1, .int p2, .int p3, .int p4] (xMp h0 m ad σ) 0 0 Q X := by
  refine xm_Run.of pn_StringTableauModel (Nat.le_of_ble_eq_true rfl) (fun Γ hΓ => ?_)
  obtain ⟨P0, hP0, hp⟩ : ∃ P : Int32 × xM_S → Prop, (∀ o, P o → Q (some (.int o.1)) (xMp h0 m ad o.2)) ∧ P o := ⟨fun o => Q (some (.int o.1)) (xMp h0 m ad o.2), fun _ h => h, hQ⟩
  clear hQ
  show xm_W g Γ 0 [some (.ref m), some (.int p1), some (.int p2), some (.int p3), some (.int p4)] [] (xMp h0 m ad σ) 0 0
  have hB_46 : ∀ (σ : xM_S) (o : Int32 × xM_S), B_X5_commute_46 σ = some o → P0 o → xm_W g Γ 46 [none, none, none, none, none] [] (xMp h0 m ad σ) 0 0 := by
    intro σ o e hp
    unfold B_X5_commute_46 at e
    refine xw_psh (v := (.int (0))) (show xm_Imp g Γ 46 (xi_psh (.int (0)) 47) from xs_iconst hΓ dX5_commute_46 (by decide)) ?_
    exact xw_iret (show xm_Imp g Γ 47 (xi_iret .boolean _) from xs_ireturn hΓ rfl dX5_commute_47) rfl (hP0 _ (xl_fin e hp))
  have hB_25 : ∀ (l1 : Int32) (l2 : Int32) (l3 : Int32) (l4 : Int32) (s1 : Int32) (σ : xM_S) (o : Int32 × xM_S), B_X5_commute_25 l1 l2 l3 l4 s1 σ = some o → P0 o → xm_W g Γ 25 [none, some (.int l1), some (.int l2), some (.int l3), some (.int l4)] [.int s1, .ref m] (xMp h0 m ad σ) 0 0 := by
    intro l1 l2 l3 l4 s1 σ o e hp
    unfold B_X5_commute_25 at e
    obtain ⟨v1, e1, e⟩ := xo_b_s e
    refine xw_mv1 (show xm_Imp g Γ 25 (xi_vir g 4 M_X5_is 1 1 28) from xs_invV hG hΓ k_X5_is rfl (ci := 4) rfl q2986 q2988 qs46 dX5_commute_25) rfl (fun Q X hQ => K_X5_is hG hM hB s1 σ e1 hQ) ?_
    refine xw_if (show xm_Imp g Γ 28 (xi_if (fun x => x = 0) 46 31) from xs_if_eq hΓ dX5_commute_28 (by decide)) (fun c => ?_) (fun c => ?_)
    · rw [if_pos c] at e
      exact xm_lx (hB_46 _ _ e hp) (trivial)
    · rw [if_neg c] at e
      refine xw_ild (show xm_Imp g Γ 31 (xi_ild 1 32) from xs_iload_n hΓ dX5_commute_31) rfl ?_
      refine xw_ild (show xm_Imp g Γ 32 (xi_ild 2 33) from xs_iload_n hΓ dX5_commute_32) rfl ?_
      refine xw_ild (show xm_Imp g Γ 33 (xi_ild 3 34) from xs_iload_n hΓ dX5_commute_33) rfl ?_
      refine xw_ild (show xm_Imp g Γ 34 (xi_ild 4 36) from xs_iload hΓ dX5_commute_34) rfl ?_
      obtain ⟨v2, e1, e⟩ := xo_b_s e
      refine xw_sv4 (show xm_Imp g Γ 36 (xi_inv g M_X5_doCommute 3 4 39) from xs_invS hG hΓ k_X5_doCommute rfl q3090 q3091 dX5_commute_36) rfl (fun Q X hQ => K_X5_doCommute hG l1 l2 l3 l4 e1 hQ) ?_
      refine xw_if (show xm_Imp g Γ 39 (xi_if (fun x => x = 0) 46 42) from xs_if_eq hΓ dX5_commute_39 (by decide)) (fun c => ?_) (fun c => ?_)
      · rw [if_pos c] at e
        exact xm_lx (hB_46 _ _ e hp) (trivial)
      · rw [if_neg c] at e
        refine xw_psh (v := (.int (1))) (show xm_Imp g Γ 42 (xi_psh (.int (1)) 43) from xs_iconst hΓ dX5_commute_42 (by decide)) ?_
        refine xw_goto (show xm_Imp g Γ 43 (xi_goto 47) from xs_goto hΓ dX5_commute_43 (by decide)) ?_
        exact xw_iret (show xm_Imp g Γ 47 (xi_iret .boolean _) from xs_ireturn hΓ rfl dX5_commute_47) rfl (hP0 _ (xl_fin e hp))
  unfold F_X5_commute at e
  refine xw_ald (show xm_Imp g Γ 0 (xi_ald 0 1) from xs_aload_n hΓ dX5_commute_0) rfl ?_
  refine xw_ald (show xm_Imp g Γ 1 (xi_ald 0 2) from xs_aload_n hΓ dX5_commute_1) rfl ?_
  refine xw_ild (show xm_Imp g Γ 2 (xi_ild 1 3) from xs_iload_n hΓ dX5_commute_2) rfl ?_
  refine xw_ild (show xm_Imp g Γ 3 (xi_ild 2 4) from xs_iload_n hΓ dX5_commute_3) rfl ?_
  refine xw_mv2 (show xm_Imp g Γ 4 (xi_vir g 4 M_X5_areMasks 2 2 7) from xs_invV hG hΓ k_X5_areMasks rfl (ci := 4) rfl q3069 q3071 qs60 dX5_commute_4) rfl (fun Q X hQ => K_X5_areMasks hG hM hB p1 p2 σ rfl hQ) ?_
  refine xw_if (show xm_Imp g Γ 7 (xi_if (fun x => x = 0) 24 10) from xs_if_eq hΓ dX5_commute_7 (by decide)) (fun c => ?_) (fun c => ?_)
  · rw [if_pos c] at e
    refine xw_psh (v := (.int (0))) (show xm_Imp g Γ 24 (xi_psh (.int (0)) 25) from xs_iconst hΓ dX5_commute_24 (by decide)) ?_
    exact xm_lx (hB_25 _ _ _ _ _ _ _ e hp) (And.intro rfl (And.intro rfl (And.intro rfl (And.intro rfl (trivial)))))
  · rw [if_neg c] at e
    refine xw_ald (show xm_Imp g Γ 10 (xi_ald 0 11) from xs_aload_n hΓ dX5_commute_10) rfl ?_
    refine xw_ild (show xm_Imp g Γ 11 (xi_ild 3 12) from xs_iload_n hΓ dX5_commute_11) rfl ?_
    refine xw_ild (show xm_Imp g Γ 12 (xi_ild 4 14) from xs_iload hΓ dX5_commute_12) rfl ?_
    refine xw_mv2 (show xm_Imp g Γ 14 (xi_vir g 4 M_X5_areMasks 2 2 17) from xs_invV hG hΓ k_X5_areMasks rfl (ci := 4) rfl q3069 q3071 qs60 dX5_commute_14) rfl (fun Q X hQ => K_X5_areMasks hG hM hB p3 p4 σ rfl hQ) ?_
    refine xw_if (show xm_Imp g Γ 17 (xi_if (fun x => x = 0) 24 20) from xs_if_eq hΓ dX5_commute_17 (by decide)) (fun c => ?_) (fun c => ?_)
    · rw [if_pos c] at e
      refine xw_psh (v := (.int (0))) (show xm_Imp g Γ 24 (xi_psh (.int (0)) 25) from xs_iconst hΓ dX5_commute_24 (by decide)) ?_
      exact xm_lx (hB_25 _ _ _ _ _ _ _ e hp) (And.intro rfl (And.intro rfl (And.intro rfl (And.intro rfl (trivial)))))
    · rw [if_neg c] at e
      refine xw_psh (v := (.int (1))) (show xm_Imp g Γ 20 (xi_psh (.int (1)) 21) from xs_iconst hΓ dX5_commute_20 (by decide)) ?_
      refine xw_goto (show xm_Imp g Γ 21 (xi_goto 25) from xs_goto hΓ dX5_commute_21 (by decide)) ?_
      exact xm_lx (hB_25 _ _ _ _ _ _ _ e hp) (And.intro rfl (And.intro rfl (And.intro rfl (And.intro rfl (trivial)))))
noncomputable def B_X5_phase_25 (l1 : Int32) (l2 : Int32) (l3 : Int32) (l4 : Int32) (s1 : Int32) (σ : xM_S) : Option (Int32 × xM_S) :=
 xo_b (F_X5_is s1 σ) (fun v1 =>
 (if v1.1 = 0 then
 some ((0, v1.2)) else
 xo_b (F_X5_phaseOf l1 l2 l3 l4) (fun v2 =>
 some ((v2, v1.2)))))
noncomputable def F_X5_phase (p1 : Int32) (p2 : Int32) (p3 : Int32) (p4 : Int32) (σ : xM_S) : Option (Int32 × xM_S) :=
 B_X5_phase_25 p1 p2 p3 p4 (if (F_X5_areMasks p1 p2 σ) = 0 then 0 else (if (F_X5_areMasks p3 p4 σ) = 0 then 0 else 1)) σ
set_option maxHeartbeats 4000000 in
theorem K_X5_phase {g : xm_G} (hG : xm_Gw g) {h0 : xm_H} {m : Nat} {ad : Nat → Nat} (hM : xM_ok h0 m ad) (hB : xk_B g h0) (p1 : Int32) (p2 : Int32) (p3 : Int32) (p4 : Int32) (σ : xM_S) {o : Int32 × xM_S} (e : F_X5_phase p1 p2 p3 p4 σ = some o) {Q : xm_P} {X : xm_X} (hQ : Q (some (.int o.1)) (xMp h0 m ad o.2)) : xm_Run g M_X5_phase 4 [.ref m, .int p1, .int p2, .int p3, .int p4] (xMp h0 m ad σ) 0 0 Q X := by
  refine xm_Run.of pn_StringTableauModel (Nat.le_of_ble_eq_true rfl) (fun Γ hΓ => ?_)
  obtain ⟨P0, hP0, hp⟩ : ∃ P : Int32 × xM_S → Prop, (∀ o, P o → Q (some (.int o.1)) (xMp h0 m ad o.2)) ∧ P o := ⟨fun o => Q (some (.int o.1)) (xMp h0 m ad o.2), fun _ h => h, hQ⟩
  clear hQ
  show xm_W g Γ 0 [some (.ref m), some (.int p1), some (.int p2), some (.int p3), some (.int p4)] [] (xMp h0 m ad σ) 0 0
  have hB_25 : ∀ (l1 : Int32) (l2 : Int32) (l3 : Int32) (l4 : Int32) (s1 : Int32) (σ : xM_S) (o : Int32 × xM_S), B_X5_phase_25 l1 l2 l3 l4 s1 σ = some o → P0 o → xm_W g Γ 25 [none, some (.int l1), some (.int l2), some (.int l3), some (.int l4)] [.int s1, .ref m] (xMp h0 m ad σ) 0 0 := by
    intro l1 l2 l3 l4 s1 σ o e hp
    unfold B_X5_phase_25 at e
    obtain ⟨v1, e1, e⟩ := xo_b_s e
    refine xw_mv1 (show xm_Imp g Γ 25 (xi_vir g 4 M_X5_is 1 1 28) from xs_invV hG hΓ k_X5_is rfl (ci := 4) rfl q2986 q2988 qs46 dX5_phase_25) rfl (fun Q X hQ => K_X5_is hG hM hB s1 σ e1 hQ) ?_
    refine xw_if (show xm_Imp g Γ 28 (xi_if (fun x => x = 0) 42 31) from xs_if_eq hΓ dX5_phase_28 (by decide)) (fun c => ?_) (fun c => ?_)
    · rw [if_pos c] at e
      refine xw_psh (v := (.int (0))) (show xm_Imp g Γ 42 (xi_psh (.int (0)) 43) from xs_iconst hΓ dX5_phase_42 (by decide)) ?_
      exact xw_iret (show xm_Imp g Γ 43 (xi_iret .int _) from xs_ireturn hΓ rfl dX5_phase_43) (xn_int _) (hP0 _ (xl_fin e hp))
    · rw [if_neg c] at e
      refine xw_ild (show xm_Imp g Γ 31 (xi_ild 1 32) from xs_iload_n hΓ dX5_phase_31) rfl ?_
      refine xw_ild (show xm_Imp g Γ 32 (xi_ild 2 33) from xs_iload_n hΓ dX5_phase_32) rfl ?_
      refine xw_ild (show xm_Imp g Γ 33 (xi_ild 3 34) from xs_iload_n hΓ dX5_phase_33) rfl ?_
      refine xw_ild (show xm_Imp g Γ 34 (xi_ild 4 36) from xs_iload hΓ dX5_phase_34) rfl ?_
      obtain ⟨v2, e1, e⟩ := xo_b_s e
      refine xw_sv4 (show xm_Imp g Γ 36 (xi_inv g M_X5_phaseOf 3 4 39) from xs_invS hG hΓ k_X5_phaseOf rfl q3105 q3106 dX5_phase_36) rfl (fun Q X hQ => K_X5_phaseOf hG l1 l2 l3 l4 e1 hQ) ?_
      refine xw_goto (show xm_Imp g Γ 39 (xi_goto 43) from xs_goto hΓ dX5_phase_39 (by decide)) ?_
      exact xw_iret (show xm_Imp g Γ 43 (xi_iret .int _) from xs_ireturn hΓ rfl dX5_phase_43) (xn_int _) (hP0 _ (xl_fin e hp))
  unfold F_X5_phase at e
  refine xw_ald (show xm_Imp g Γ 0 (xi_ald 0 1) from xs_aload_n hΓ dX5_phase_0) rfl ?_
  refine xw_ald (show xm_Imp g Γ 1 (xi_ald 0 2) from xs_aload_n hΓ dX5_phase_1) rfl ?_
  refine xw_ild (show xm_Imp g Γ 2 (xi_ild 1 3) from xs_iload_n hΓ dX5_phase_2) rfl ?_
  refine xw_ild (show xm_Imp g Γ 3 (xi_ild 2 4) from xs_iload_n hΓ dX5_phase_3) rfl ?_
  refine xw_mv2 (show xm_Imp g Γ 4 (xi_vir g 4 M_X5_areMasks 2 2 7) from xs_invV hG hΓ k_X5_areMasks rfl (ci := 4) rfl q3069 q3071 qs60 dX5_phase_4) rfl (fun Q X hQ => K_X5_areMasks hG hM hB p1 p2 σ rfl hQ) ?_
  refine xw_if (show xm_Imp g Γ 7 (xi_if (fun x => x = 0) 24 10) from xs_if_eq hΓ dX5_phase_7 (by decide)) (fun c => ?_) (fun c => ?_)
  · rw [if_pos c] at e
    refine xw_psh (v := (.int (0))) (show xm_Imp g Γ 24 (xi_psh (.int (0)) 25) from xs_iconst hΓ dX5_phase_24 (by decide)) ?_
    exact xm_lx (hB_25 _ _ _ _ _ _ _ e hp) (And.intro rfl (And.intro rfl (And.intro rfl (And.intro rfl (trivial)))))
  · rw [if_neg c] at e
    refine xw_ald (show xm_Imp g Γ 10 (xi_ald 0 11) from xs_aload_n hΓ dX5_phase_10) rfl ?_
    refine xw_ild (show xm_Imp g Γ 11 (xi_ild 3 12) from xs_iload_n hΓ dX5_phase_11) rfl ?_
    refine xw_ild (show xm_Imp g Γ 12 (xi_ild 4 14) from xs_iload hΓ dX5_phase_12) rfl ?_
    refine xw_mv2 (show xm_Imp g Γ 14 (xi_vir g 4 M_X5_areMasks 2 2 17) from xs_invV hG hΓ k_X5_areMasks rfl (ci := 4) rfl q3069 q3071 qs60 dX5_phase_14) rfl (fun Q X hQ => K_X5_areMasks hG hM hB p3 p4 σ rfl hQ) ?_
    refine xw_if (show xm_Imp g Γ 17 (xi_if (fun x => x = 0) 24 20) from xs_if_eq hΓ dX5_phase_17 (by decide)) (fun c => ?_) (fun c => ?_)
    · rw [if_pos c] at e
      refine xw_psh (v := (.int (0))) (show xm_Imp g Γ 24 (xi_psh (.int (0)) 25) from xs_iconst hΓ dX5_phase_24 (by decide)) ?_
      exact xm_lx (hB_25 _ _ _ _ _ _ _ e hp) (And.intro rfl (And.intro rfl (And.intro rfl (And.intro rfl (trivial)))))
    · rw [if_neg c] at e
      refine xw_psh (v := (.int (1))) (show xm_Imp g Γ 20 (xi_psh (.int (1)) 21) from xs_iconst hΓ dX5_phase_20 (by decide)) ?_
      refine xw_goto (show xm_Imp g Γ 21 (xi_goto 25) from xs_goto hΓ dX5_phase_21 (by decide)) ?_
      exact xm_lx (hB_25 _ _ _ _ _ _ _ e hp) (And.intro rfl (And.intro rfl (And.intro rfl (And.intro rfl (trivial)))))
noncomputable def F_X5_against (p1 : Int32) (p2 : Int32) (σ : xM_S) : Option (Int32 × xM_S) :=
 xo_b (F_X5_is (F_X5_areMasks p1 p2 σ) σ) (fun v1 =>
 (if v1.1 = 0 then
 some ((0, v1.2)) else
 xo_b (F_X5_againstOf p1 p2 v1.2) (fun v2 =>
 some ((v2, v1.2)))))
set_option maxHeartbeats 4000000 in
theorem K_X5_against {g : xm_G} (hG : xm_Gw g) {h0 : xm_H} {m : Nat} {ad : Nat → Nat} (hM : xM_ok h0 m ad) (hB : xk_B g h0) (p1 : Int32) (p2 : Int32) (σ : xM_S) {o : Int32 × xM_S} (e : F_X5_against p1 p2 σ = some o) {Q : xm_P} {X : xm_X} (hQ : Q (some (.int o.1)) (xMp h0 m ad o.2)) : xm_Run g M_X5_against 5 [.ref m, .int p1, .int p2] (xMp h0 m ad σ) 0 0 Q X := by
  refine xm_Run.of pn_StringTableauModel (Nat.le_of_ble_eq_true rfl) (fun Γ hΓ => ?_)
  obtain ⟨P0, hP0, hp⟩ : ∃ P : Int32 × xM_S → Prop, (∀ o, P o → Q (some (.int o.1)) (xMp h0 m ad o.2)) ∧ P o := ⟨fun o => Q (some (.int o.1)) (xMp h0 m ad o.2), fun _ h => h, hQ⟩
  clear hQ
  show xm_W g Γ 0 [some (.ref m), some (.int p1), some (.int p2)] [] (xMp h0 m ad σ) 0 0
  unfold F_X5_against at e
  refine xw_ald (show xm_Imp g Γ 0 (xi_ald 0 1) from xs_aload_n hΓ dX5_against_0) rfl ?_
  refine xw_ald (show xm_Imp g Γ 1 (xi_ald 0 2) from xs_aload_n hΓ dX5_against_1) rfl ?_
  refine xw_ild (show xm_Imp g Γ 2 (xi_ild 1 3) from xs_iload_n hΓ dX5_against_2) rfl ?_
  refine xw_ild (show xm_Imp g Γ 3 (xi_ild 2 4) from xs_iload_n hΓ dX5_against_3) rfl ?_
  refine xw_mv2 (show xm_Imp g Γ 4 (xi_vir g 4 M_X5_areMasks 2 2 7) from xs_invV hG hΓ k_X5_areMasks rfl (ci := 4) rfl q3069 q3071 qs60 dX5_against_4) rfl (fun Q X hQ => K_X5_areMasks hG hM hB p1 p2 σ rfl hQ) ?_
  obtain ⟨v1, e1, e⟩ := xo_b_s e
  refine xw_mv1 (show xm_Imp g Γ 7 (xi_vir g 4 M_X5_is 1 1 10) from xs_invV hG hΓ k_X5_is rfl (ci := 4) rfl q2986 q2988 qs46 dX5_against_7) rfl (fun Q X hQ => K_X5_is hG hM hB (F_X5_areMasks p1 p2 σ) σ e1 hQ) ?_
  refine xw_if (show xm_Imp g Γ 10 (xi_if (fun x => x = 0) 22 13) from xs_if_eq hΓ dX5_against_10 (by decide)) (fun c => ?_) (fun c => ?_)
  · rw [if_pos c] at e
    refine xw_psh (v := (.int (0))) (show xm_Imp g Γ 22 (xi_psh (.int (0)) 23) from xs_iconst hΓ dX5_against_22 (by decide)) ?_
    exact xw_iret (show xm_Imp g Γ 23 (xi_iret .int _) from xs_ireturn hΓ rfl dX5_against_23) (xn_int _) (hP0 _ (xl_fin e hp))
  · rw [if_neg c] at e
    refine xw_ald (show xm_Imp g Γ 13 (xi_ald 0 14) from xs_aload_n hΓ dX5_against_13) rfl ?_
    refine xw_ild (show xm_Imp g Γ 14 (xi_ild 1 15) from xs_iload_n hΓ dX5_against_14) rfl ?_
    refine xw_ild (show xm_Imp g Γ 15 (xi_ild 2 16) from xs_iload_n hΓ dX5_against_15) rfl ?_
    obtain ⟨v2, e1, e⟩ := xo_b_s e
    refine xw_mv2 (show xm_Imp g Γ 16 (xi_vir g 4 M_X5_againstOf 4 2 19) from xs_invV hG hΓ k_X5_againstOf rfl (ci := 4) rfl q3086 q3088 qs64 dX5_against_16) rfl (fun Q X hQ => K_X5_againstOf hG hM hB p1 p2 v1.2 e1 hQ) ?_
    refine xw_goto (show xm_Imp g Γ 19 (xi_goto 23) from xs_goto hΓ dX5_against_19 (by decide)) ?_
    exact xw_iret (show xm_Imp g Γ 23 (xi_iret .int _) from xs_ireturn hΓ rfl dX5_against_23) (xn_int _) (hP0 _ (xl_fin e hp))
noncomputable def F_X5_expectation (p1 : Int32) (p2 : Int32) (σ : xM_S) : Option (Int32 × xM_S) :=
 xo_b (F_X5_is (F_X5_areMasks p1 p2 σ) σ) (fun v1 =>
 (if v1.1 = 0 then
 some ((0, v1.2)) else
 xo_b (F_X5_setOf p1 p2 v1.2) (fun v2 =>
 (if v2.1 = (-1) then
 some ((0, v2.2)) else
 (if (v2.2.1 8) = 1 then
 some (((-1), v2.2)) else
 some ((1, v2.2)))))))
set_option maxHeartbeats 4000000 in
theorem K_X5_expectation {g : xm_G} (hG : xm_Gw g) {h0 : xm_H} {m : Nat} {ad : Nat → Nat} (hM : xM_ok h0 m ad) (hB : xk_B g h0) (p1 : Int32) (p2 : Int32) (σ : xM_S) {o : Int32 × xM_S} (e : F_X5_expectation p1 p2 σ = some o) {Q : xm_P} {X : xm_X} (hQ : Q (some (.int o.1)) (xMp h0 m ad o.2)) : xm_Run g M_X5_expectation 7 [.ref m, .int p1, .int p2] (xMp h0 m ad σ) 0 0 Q X := by
  refine xm_Run.of pn_StringTableauModel (Nat.le_of_ble_eq_true rfl) (fun Γ hΓ => ?_)
  obtain ⟨P0, hP0, hp⟩ : ∃ P : Int32 × xM_S → Prop, (∀ o, P o → Q (some (.int o.1)) (xMp h0 m ad o.2)) ∧ P o := ⟨fun o => Q (some (.int o.1)) (xMp h0 m ad o.2), fun _ h => h, hQ⟩
  clear hQ
  show xm_W g Γ 0 [some (.ref m), some (.int p1), some (.int p2)] [] (xMp h0 m ad σ) 0 0
  unfold F_X5_expectation at e
  refine xw_ald (show xm_Imp g Γ 0 (xi_ald 0 1) from xs_aload_n hΓ dX5_expectation_0) rfl ?_
  refine xw_ald (show xm_Imp g Γ 1 (xi_ald 0 2) from xs_aload_n hΓ dX5_expectation_1) rfl ?_
  refine xw_ild (show xm_Imp g Γ 2 (xi_ild 1 3) from xs_iload_n hΓ dX5_expectation_2) rfl ?_
  refine xw_ild (show xm_Imp g Γ 3 (xi_ild 2 4) from xs_iload_n hΓ dX5_expectation_3) rfl ?_
  refine xw_mv2 (show xm_Imp g Γ 4 (xi_vir g 4 M_X5_areMasks 2 2 7) from xs_invV hG hΓ k_X5_areMasks rfl (ci := 4) rfl q3069 q3071 qs60 dX5_expectation_4) rfl (fun Q X hQ => K_X5_areMasks hG hM hB p1 p2 σ rfl hQ) ?_
  obtain ⟨v1, e1, e⟩ := xo_b_s e
  refine xw_mv1 (show xm_Imp g Γ 7 (xi_vir g 4 M_X5_is 1 1 10) from xs_invV hG hΓ k_X5_is rfl (ci := 4) rfl q2986 q2988 qs46 dX5_expectation_7) rfl (fun Q X hQ => K_X5_is hG hM hB (F_X5_areMasks p1 p2 σ) σ e1 hQ) ?_
  refine xw_if (show xm_Imp g Γ 10 (xi_if (fun x => x = 0) 23 13) from xs_if_eq hΓ dX5_expectation_10 (by decide)) (fun c => ?_) (fun c => ?_)
  · rw [if_pos c] at e
    refine xw_psh (v := (.int (0))) (show xm_Imp g Γ 23 (xi_psh (.int (0)) 24) from xs_iconst hΓ dX5_expectation_23 (by decide)) ?_
    exact xw_iret (show xm_Imp g Γ 24 (xi_iret .int _) from xs_ireturn hΓ rfl dX5_expectation_24) (xn_int _) (hP0 _ (xl_fin e hp))
  · rw [if_neg c] at e
    refine xw_ald (show xm_Imp g Γ 13 (xi_ald 0 14) from xs_aload_n hΓ dX5_expectation_13) rfl ?_
    refine xw_ild (show xm_Imp g Γ 14 (xi_ild 1 15) from xs_iload_n hΓ dX5_expectation_14) rfl ?_
    refine xw_ild (show xm_Imp g Γ 15 (xi_ild 2 16) from xs_iload_n hΓ dX5_expectation_15) rfl ?_
    obtain ⟨v2, e1, e⟩ := xo_b_s e
    refine xw_mv2 (show xm_Imp g Γ 16 (xi_vir g 4 M_X5_setOf 6 2 19) from xs_invV hG hΓ k_X5_setOf rfl (ci := 4) rfl q3093 q3095 qs65 dX5_expectation_16) rfl (fun Q X hQ => K_X5_setOf hG hM hB p1 p2 v1.2 e1 hQ) ?_
    refine xw_psh (v := (.int (-1))) (show xm_Imp g Γ 19 (xi_psh (.int (-1)) 20) from xs_iconst hΓ dX5_expectation_19 (by decide)) ?_
    refine xw_ic (show xm_Imp g Γ 20 (xi_ic (fun x y => x = y) 23 25) from xs_icmp_ne hΓ dX5_expectation_20 (by decide)) (fun c => ?_) (fun c => ?_)
    · rw [if_pos c] at e
      refine xw_psh (v := (.int (0))) (show xm_Imp g Γ 23 (xi_psh (.int (0)) 24) from xs_iconst hΓ dX5_expectation_23 (by decide)) ?_
      exact xw_iret (show xm_Imp g Γ 24 (xi_iret .int _) from xs_ireturn hΓ rfl dX5_expectation_24) (xn_int _) (hP0 _ (xl_fin e hp))
    · rw [if_neg c] at e
      refine xw_ald (show xm_Imp g Γ 25 (xi_ald 0 26) from xs_aload_n hΓ dX5_expectation_25) rfl ?_
      refine xw_mgi (v := (v2.2.1 8)) (show xm_Imp g Γ 26 (xi_get 4 8 29) from xs_get hG hΓ (ci := 4) (kf := 8) rfl (Nat.le_of_ble_eq_true rfl) q2858 dX5_expectation_26) (fun _ => rfl) rfl ?_
      refine xw_psh (v := (.int (1))) (show xm_Imp g Γ 29 (xi_psh (.int (1)) 30) from xs_iconst hΓ dX5_expectation_29 (by decide)) ?_
      refine xw_ic (show xm_Imp g Γ 30 (xi_ic (fun x y => x = y) 33 37) from xs_icmp_ne hΓ dX5_expectation_30 (by decide)) (fun c => ?_) (fun c => ?_)
      · rw [if_pos c] at e
        refine xw_psh (v := (.int (-1))) (show xm_Imp g Γ 33 (xi_psh (.int (-1)) 34) from xs_iconst hΓ dX5_expectation_33 (by decide)) ?_
        refine xw_goto (show xm_Imp g Γ 34 (xi_goto 38) from xs_goto hΓ dX5_expectation_34 (by decide)) ?_
        exact xw_iret (show xm_Imp g Γ 38 (xi_iret .int _) from xs_ireturn hΓ rfl dX5_expectation_38) (xn_int _) (hP0 _ (xl_fin e hp))
      · rw [if_neg c] at e
        refine xw_psh (v := (.int (1))) (show xm_Imp g Γ 37 (xi_psh (.int (1)) 38) from xs_iconst hΓ dX5_expectation_37 (by decide)) ?_
        exact xw_iret (show xm_Imp g Γ 38 (xi_iret .int _) from xs_ireturn hΓ rfl dX5_expectation_38) (xn_int _) (hP0 _ (xl_fin e hp))
noncomputable def F_X5_decompose (p1 : Int32) (p2 : Int32) (σ : xM_S) : Option (Int32 × xM_S) :=
 xo_b (F_X5_is (F_X5_areMasks p1 p2 σ) σ) (fun v1 =>
 (if v1.1 = 0 then
 some ((0, v1.2)) else
 xo_b (F_X5_setOf p1 p2 v1.2) (fun v2 =>
 some ((v2.1, v2.2)))))
set_option maxHeartbeats 4000000 in
theorem K_X5_decompose {g : xm_G} (hG : xm_Gw g) {h0 : xm_H} {m : Nat} {ad : Nat → Nat} (hM : xM_ok h0 m ad) (hB : xk_B g h0) (p1 : Int32) (p2 : Int32) (σ : xM_S) {o : Int32 × xM_S} (e : F_X5_decompose p1 p2 σ = some o) {Q : xm_P} {X : xm_X} (hQ : Q (some (.int o.1)) (xMp h0 m ad o.2)) : xm_Run g M_X5_decompose 7 [.ref m, .int p1, .int p2] (xMp h0 m ad σ) 0 0 Q X := by
  refine xm_Run.of pn_StringTableauModel (Nat.le_of_ble_eq_true rfl) (fun Γ hΓ => ?_)
  obtain ⟨P0, hP0, hp⟩ : ∃ P : Int32 × xM_S → Prop, (∀ o, P o → Q (some (.int o.1)) (xMp h0 m ad o.2)) ∧ P o := ⟨fun o => Q (some (.int o.1)) (xMp h0 m ad o.2), fun _ h => h, hQ⟩
  clear hQ
  show xm_W g Γ 0 [some (.ref m), some (.int p1), some (.int p2)] [] (xMp h0 m ad σ) 0 0
  unfold F_X5_decompose at e
  refine xw_ald (show xm_Imp g Γ 0 (xi_ald 0 1) from xs_aload_n hΓ dX5_decompose_0) rfl ?_
  refine xw_ald (show xm_Imp g Γ 1 (xi_ald 0 2) from xs_aload_n hΓ dX5_decompose_1) rfl ?_
  refine xw_ild (show xm_Imp g Γ 2 (xi_ild 1 3) from xs_iload_n hΓ dX5_decompose_2) rfl ?_
  refine xw_ild (show xm_Imp g Γ 3 (xi_ild 2 4) from xs_iload_n hΓ dX5_decompose_3) rfl ?_
  refine xw_mv2 (show xm_Imp g Γ 4 (xi_vir g 4 M_X5_areMasks 2 2 7) from xs_invV hG hΓ k_X5_areMasks rfl (ci := 4) rfl q3069 q3071 qs60 dX5_decompose_4) rfl (fun Q X hQ => K_X5_areMasks hG hM hB p1 p2 σ rfl hQ) ?_
  obtain ⟨v1, e1, e⟩ := xo_b_s e
  refine xw_mv1 (show xm_Imp g Γ 7 (xi_vir g 4 M_X5_is 1 1 10) from xs_invV hG hΓ k_X5_is rfl (ci := 4) rfl q2986 q2988 qs46 dX5_decompose_7) rfl (fun Q X hQ => K_X5_is hG hM hB (F_X5_areMasks p1 p2 σ) σ e1 hQ) ?_
  refine xw_if (show xm_Imp g Γ 10 (xi_if (fun x => x = 0) 22 13) from xs_if_eq hΓ dX5_decompose_10 (by decide)) (fun c => ?_) (fun c => ?_)
  · rw [if_pos c] at e
    refine xw_psh (v := (.int (0))) (show xm_Imp g Γ 22 (xi_psh (.int (0)) 23) from xs_iconst hΓ dX5_decompose_22 (by decide)) ?_
    exact xw_iret (show xm_Imp g Γ 23 (xi_iret .int _) from xs_ireturn hΓ rfl dX5_decompose_23) (xn_int _) (hP0 _ (xl_fin e hp))
  · rw [if_neg c] at e
    refine xw_ald (show xm_Imp g Γ 13 (xi_ald 0 14) from xs_aload_n hΓ dX5_decompose_13) rfl ?_
    refine xw_ild (show xm_Imp g Γ 14 (xi_ild 1 15) from xs_iload_n hΓ dX5_decompose_14) rfl ?_
    refine xw_ild (show xm_Imp g Γ 15 (xi_ild 2 16) from xs_iload_n hΓ dX5_decompose_15) rfl ?_
    obtain ⟨v2, e1, e⟩ := xo_b_s e
    refine xw_mv2 (show xm_Imp g Γ 16 (xi_vir g 4 M_X5_setOf 6 2 19) from xs_invV hG hΓ k_X5_setOf rfl (ci := 4) rfl q3093 q3095 qs65 dX5_decompose_16) rfl (fun Q X hQ => K_X5_setOf hG hM hB p1 p2 v1.2 e1 hQ) ?_
    refine xw_goto (show xm_Imp g Γ 19 (xi_goto 23) from xs_goto hΓ dX5_decompose_19 (by decide)) ?_
    exact xw_iret (show xm_Imp g Γ 23 (xi_iret .int _) from xs_ireturn hΓ rfl dX5_decompose_23) (xn_int _) (hP0 _ (xl_fin e hp))
def F_X5_isSet (p1 : Int32) (σ : xM_S) : Int32 :=
 (F_X5_isIn p1.toInt64 0 (((F_X5_sets σ) - 1).toInt64))
set_option maxHeartbeats 4000000 in
theorem K_X5_isSet {g : xm_G} (hG : xm_Gw g) {h0 : xm_H} {m : Nat} {ad : Nat → Nat} (hM : xM_ok h0 m ad) (hB : xk_B g h0) (p1 : Int32) (σ : xM_S) {o : Int32} (e : F_X5_isSet p1 σ = o) {Q : xm_P} {X : xm_X} (hQ : Q (some (.int o)) (xMp h0 m ad σ)) : xm_Run g M_X5_isSet 2 [.ref m, .int p1] (xMp h0 m ad σ) 0 0 Q X := by
  refine xm_Run.of pn_StringTableauModel (Nat.le_of_ble_eq_true rfl) (fun Γ hΓ => ?_)
  obtain ⟨P0, hP0, hp⟩ : ∃ P : Int32 → Prop, (∀ o, P o → Q (some (.int o)) (xMp h0 m ad σ)) ∧ P o := ⟨fun o => Q (some (.int o)) (xMp h0 m ad σ), fun _ h => h, hQ⟩
  clear hQ
  show xm_W g Γ 0 [some (.ref m), some (.int p1)] [] (xMp h0 m ad σ) 0 0
  unfold F_X5_isSet at e
  refine xw_ild (show xm_Imp g Γ 0 (xi_ild 1 1) from xs_iload_n hΓ dX5_isSet_0) rfl ?_
  refine xw_i2l (show xm_Imp g Γ 1 (xi_i2l 2) from xs_i2l hΓ dX5_isSet_1) ?_
  refine xw_psh (v := (.long 0)) (show xm_Imp g Γ 2 (xi_psh (.long 0) 3) from xs_lconst hΓ dX5_isSet_2 (by decide)) ?_
  refine xw_ald (show xm_Imp g Γ 3 (xi_ald 0 4) from xs_aload_n hΓ dX5_isSet_3) rfl ?_
  refine xw_mv0 (show xm_Imp g Γ 4 (xi_vir g 4 M_X5_sets 1 0 7) from xs_invV hG hΓ k_X5_sets rfl (ci := 4) rfl q3073 q3075 qs61 dX5_isSet_4) rfl (fun Q X hQ => K_X5_sets hG hM hB σ rfl hQ) ?_
  refine xw_psh (v := (.int (1))) (show xm_Imp g Γ 7 (xi_psh (.int (1)) 8) from xs_iconst hΓ dX5_isSet_7 (by decide)) ?_
  refine xw_ii (show xm_Imp g Γ 8 (xi_ii (fun x y => x - y) 9) from xs_isub hΓ dX5_isSet_8) ?_
  refine xw_i2l (show xm_Imp g Γ 9 (xi_i2l 10) from xs_i2l hΓ dX5_isSet_9) ?_
  refine xw_sv3 (show xm_Imp g Γ 10 (xi_inv g M_X5_isIn 1 3 13) from xs_invS hG hΓ k_X5_isIn rfl q2996 q2997 dX5_isSet_10) rfl (fun Q X hQ => K_X5_isIn hG p1.toInt64 0 (((F_X5_sets σ) - 1).toInt64) rfl hQ) ?_
  exact xw_iret (show xm_Imp g Γ 13 (xi_iret .boolean _) from xs_ireturn hΓ rfl dX5_isSet_13) (b_X5_isIn p1.toInt64 0 (((F_X5_sets σ) - 1).toInt64)) (hP0 _ (xl_finV e hp))
theorem b_X5_isSet (p1 : Int32) (σ : xM_S) : narrow .boolean (.int (F_X5_isSet p1 σ)) = .int (F_X5_isSet p1 σ) := by
  unfold F_X5_isSet
  (repeat' split) <;> first | with_reducible exact xb_n0 | with_reducible exact xb_n1 | with_reducible exact b_X5_isIn _ _ _
def F_X5_out (p1 : Int32) (σ : xM_S) : Int32 :=
 (if p1 = 2 then
 (if (σ.1 8) = 1 then
 (-1) else
 1) else
 (if p1 = 0 then
 (σ.1 6) else
 (σ.1 7)))
set_option maxHeartbeats 4000000 in
theorem K_X5_out {g : xm_G} (hG : xm_Gw g) {h0 : xm_H} {m : Nat} {ad : Nat → Nat} (hM : xM_ok h0 m ad) (hB : xk_B g h0) (p1 : Int32) (σ : xM_S) {o : Int32} (e : F_X5_out p1 σ = o) {Q : xm_P} {X : xm_X} (hQ : Q (some (.int o)) (xMp h0 m ad σ)) : xm_Run g M_X5_out 1 [.ref m, .int p1] (xMp h0 m ad σ) 0 0 Q X := by
  refine xm_Run.of pn_StringTableauModel (Nat.le_of_ble_eq_true rfl) (fun Γ hΓ => ?_)
  obtain ⟨P0, hP0, hp⟩ : ∃ P : Int32 → Prop, (∀ o, P o → Q (some (.int o)) (xMp h0 m ad σ)) ∧ P o := ⟨fun o => Q (some (.int o)) (xMp h0 m ad σ), fun _ h => h, hQ⟩
  clear hQ
  show xm_W g Γ 0 [some (.ref m), some (.int p1)] [] (xMp h0 m ad σ) 0 0
  unfold F_X5_out at e
  refine xw_ild (show xm_Imp g Γ 0 (xi_ild 1 1) from xs_iload_n hΓ dX5_out_0) rfl ?_
  refine xw_psh (v := (.int (2))) (show xm_Imp g Γ 1 (xi_psh (.int (2)) 2) from xs_iconst hΓ dX5_out_1 (by decide)) ?_
  refine xw_ic (show xm_Imp g Γ 2 (xi_ic (fun x y => x = y) 5 19) from xs_icmp_ne hΓ dX5_out_2 (by decide)) (fun c => ?_) (fun c => ?_)
  · rw [if_pos c] at e
    refine xw_ald (show xm_Imp g Γ 5 (xi_ald 0 6) from xs_aload_n hΓ dX5_out_5) rfl ?_
    refine xw_mgi (v := (σ.1 8)) (show xm_Imp g Γ 6 (xi_get 4 8 9) from xs_get hG hΓ (ci := 4) (kf := 8) rfl (Nat.le_of_ble_eq_true rfl) q2858 dX5_out_6) (fun _ => rfl) rfl ?_
    refine xw_psh (v := (.int (1))) (show xm_Imp g Γ 9 (xi_psh (.int (1)) 10) from xs_iconst hΓ dX5_out_9 (by decide)) ?_
    refine xw_ic (show xm_Imp g Γ 10 (xi_ic (fun x y => x = y) 13 17) from xs_icmp_ne hΓ dX5_out_10 (by decide)) (fun c => ?_) (fun c => ?_)
    · rw [if_pos c] at e
      refine xw_psh (v := (.int (-1))) (show xm_Imp g Γ 13 (xi_psh (.int (-1)) 14) from xs_iconst hΓ dX5_out_13 (by decide)) ?_
      refine xw_goto (show xm_Imp g Γ 14 (xi_goto 18) from xs_goto hΓ dX5_out_14 (by decide)) ?_
      exact xw_iret (show xm_Imp g Γ 18 (xi_iret .int _) from xs_ireturn hΓ rfl dX5_out_18) (xn_int _) (hP0 _ (xl_finV e hp))
    · rw [if_neg c] at e
      refine xw_psh (v := (.int (1))) (show xm_Imp g Γ 17 (xi_psh (.int (1)) 18) from xs_iconst hΓ dX5_out_17 (by decide)) ?_
      exact xw_iret (show xm_Imp g Γ 18 (xi_iret .int _) from xs_ireturn hΓ rfl dX5_out_18) (xn_int _) (hP0 _ (xl_finV e hp))
  · rw [if_neg c] at e
    refine xw_ild (show xm_Imp g Γ 19 (xi_ild 1 20) from xs_iload_n hΓ dX5_out_19) rfl ?_
    refine xw_if (show xm_Imp g Γ 20 (xi_if (fun x => x = 0) 23 30) from xs_if_ne hΓ dX5_out_20 (by decide)) (fun c => ?_) (fun c => ?_)
    · rw [if_pos c] at e
      refine xw_ald (show xm_Imp g Γ 23 (xi_ald 0 24) from xs_aload_n hΓ dX5_out_23) rfl ?_
      refine xw_mgi (v := (σ.1 6)) (show xm_Imp g Γ 24 (xi_get 4 6 27) from xs_get hG hΓ (ci := 4) (kf := 6) rfl (Nat.le_of_ble_eq_true rfl) q2856 dX5_out_24) (fun _ => rfl) rfl ?_
      refine xw_goto (show xm_Imp g Γ 27 (xi_goto 34) from xs_goto hΓ dX5_out_27 (by decide)) ?_
      exact xw_iret (show xm_Imp g Γ 34 (xi_iret .int _) from xs_ireturn hΓ rfl dX5_out_34) (xn_int _) (hP0 _ (xl_finV e hp))
    · rw [if_neg c] at e
      refine xw_ald (show xm_Imp g Γ 30 (xi_ald 0 31) from xs_aload_n hΓ dX5_out_30) rfl ?_
      refine xw_mgi (v := (σ.1 7)) (show xm_Imp g Γ 31 (xi_get 4 7 34) from xs_get hG hΓ (ci := 4) (kf := 7) rfl (Nat.le_of_ble_eq_true rfl) q2857 dX5_out_31) (fun _ => rfl) rfl ?_
      exact xw_iret (show xm_Imp g Γ 34 (xi_iret .int _) from xs_ireturn hΓ rfl dX5_out_34) (xn_int _) (hP0 _ (xl_finV e hp))
noncomputable def F_X5_element (p1 : Int32) (p2 : Int32) (σ : xM_S) : Option (Int32 × xM_S) :=
 xo_b (F_X5_is (F_X5_isIn p2.toInt64 0 2) σ) (fun v1 =>
 (if v1.1 = 0 then
 some ((0, v1.2)) else
 xo_b (F_X5_may (F_X5_isSet p1 v1.2) 2 v1.2) (fun v2 =>
 (if v2.1 = 0 then
 some ((0, v2.2)) else
 xo_b (F_X5_takesElement p1 v2.2) (fun v3 =>
 some (((F_X5_out p2 v3), v3)))))))
set_option maxHeartbeats 4000000 in
theorem K_X5_element {g : xm_G} (hG : xm_Gw g) {h0 : xm_H} {m : Nat} {ad : Nat → Nat} (hM : xM_ok h0 m ad) (hB : xk_B g h0) (p1 : Int32) (p2 : Int32) (σ : xM_S) {o : Int32 × xM_S} (e : F_X5_element p1 p2 σ = some o) {Q : xm_P} {X : xm_X} (hQ : Q (some (.int o.1)) (xMp h0 m ad o.2)) : xm_Run g M_X5_element 6 [.ref m, .int p1, .int p2] (xMp h0 m ad σ) 0 0 Q X := by
  refine xm_Run.of pn_StringTableauModel (Nat.le_of_ble_eq_true rfl) (fun Γ hΓ => ?_)
  obtain ⟨P0, hP0, hp⟩ : ∃ P : Int32 × xM_S → Prop, (∀ o, P o → Q (some (.int o.1)) (xMp h0 m ad o.2)) ∧ P o := ⟨fun o => Q (some (.int o.1)) (xMp h0 m ad o.2), fun _ h => h, hQ⟩
  clear hQ
  show xm_W g Γ 0 [some (.ref m), some (.int p1), some (.int p2)] [] (xMp h0 m ad σ) 0 0
  unfold F_X5_element at e
  refine xw_ald (show xm_Imp g Γ 0 (xi_ald 0 1) from xs_aload_n hΓ dX5_element_0) rfl ?_
  refine xw_ild (show xm_Imp g Γ 1 (xi_ild 2 2) from xs_iload_n hΓ dX5_element_1) rfl ?_
  refine xw_i2l (show xm_Imp g Γ 2 (xi_i2l 3) from xs_i2l hΓ dX5_element_2) ?_
  refine xw_psh (v := (.long 0)) (show xm_Imp g Γ 3 (xi_psh (.long 0) 4) from xs_lconst hΓ dX5_element_3 (by decide)) ?_
  refine xw_psh (v := (.long (2))) (show xm_Imp g Γ 4 (xi_psh (.long (2)) 7) from xs_ldc2 hG hΓ q3292 dX5_element_4) ?_
  refine xw_sv3 (show xm_Imp g Γ 7 (xi_inv g M_X5_isIn 1 3 10) from xs_invS hG hΓ k_X5_isIn rfl q2996 q2997 dX5_element_7) rfl (fun Q X hQ => K_X5_isIn hG p2.toInt64 0 2 rfl hQ) ?_
  obtain ⟨v1, e1, e⟩ := xo_b_s e
  refine xw_mv1 (show xm_Imp g Γ 10 (xi_vir g 4 M_X5_is 1 1 13) from xs_invV hG hΓ k_X5_is rfl (ci := 4) rfl q2986 q2988 qs46 dX5_element_10) rfl (fun Q X hQ => K_X5_is hG hM hB (F_X5_isIn p2.toInt64 0 2) σ e1 hQ) ?_
  refine xw_if (show xm_Imp g Γ 13 (xi_if (fun x => x = 0) 29 16) from xs_if_eq hΓ dX5_element_13 (by decide)) (fun c => ?_) (fun c => ?_)
  · rw [if_pos c] at e
    refine xw_psh (v := (.int (0))) (show xm_Imp g Γ 29 (xi_psh (.int (0)) 30) from xs_iconst hΓ dX5_element_29 (by decide)) ?_
    exact xw_iret (show xm_Imp g Γ 30 (xi_iret .int _) from xs_ireturn hΓ rfl dX5_element_30) (xn_int _) (hP0 _ (xl_fin e hp))
  · rw [if_neg c] at e
    refine xw_ald (show xm_Imp g Γ 16 (xi_ald 0 17) from xs_aload_n hΓ dX5_element_16) rfl ?_
    refine xw_ald (show xm_Imp g Γ 17 (xi_ald 0 18) from xs_aload_n hΓ dX5_element_17) rfl ?_
    refine xw_ild (show xm_Imp g Γ 18 (xi_ild 1 19) from xs_iload_n hΓ dX5_element_18) rfl ?_
    refine xw_mv1 (show xm_Imp g Γ 19 (xi_vir g 4 M_X5_isSet 2 1 22) from xs_invV hG hΓ k_X5_isSet rfl (ci := 4) rfl q3333 q3335 qs98 dX5_element_19) rfl (fun Q X hQ => K_X5_isSet hG hM hB p1 v1.2 rfl hQ) ?_
    refine xw_psh (v := (.int (2))) (show xm_Imp g Γ 22 (xi_psh (.int (2)) 23) from xs_iconst hΓ dX5_element_22 (by decide)) ?_
    obtain ⟨v2, e1, e⟩ := xo_b_s e
    refine xw_mv2 (show xm_Imp g Γ 23 (xi_vir g 4 M_X5_may 1 2 26) from xs_invV hG hΓ k_X5_may rfl (ci := 4) rfl q3003 q3005 qs48 dX5_element_23) rfl (fun Q X hQ => K_X5_may hG hM hB (F_X5_isSet p1 v1.2) 2 v1.2 e1 hQ) ?_
    refine xw_if (show xm_Imp g Γ 26 (xi_if (fun x => x = 0) 29 31) from xs_if_ne hΓ dX5_element_26 (by decide)) (fun c => ?_) (fun c => ?_)
    · rw [if_pos c] at e
      refine xw_psh (v := (.int (0))) (show xm_Imp g Γ 29 (xi_psh (.int (0)) 30) from xs_iconst hΓ dX5_element_29 (by decide)) ?_
      exact xw_iret (show xm_Imp g Γ 30 (xi_iret .int _) from xs_ireturn hΓ rfl dX5_element_30) (xn_int _) (hP0 _ (xl_fin e hp))
    · rw [if_neg c] at e
      refine xw_ald (show xm_Imp g Γ 31 (xi_ald 0 32) from xs_aload_n hΓ dX5_element_31) rfl ?_
      refine xw_ild (show xm_Imp g Γ 32 (xi_ild 1 33) from xs_iload_n hΓ dX5_element_32) rfl ?_
      obtain ⟨v3, e1, e⟩ := xo_b_s e
      refine xw_mu1 (show xm_Imp g Γ 33 (xi_vir g 4 M_X5_takesElement 5 1 36) from xs_invV hG hΓ k_X5_takesElement rfl (ci := 4) rfl q3097 q3099 qs66 dX5_element_33) rfl (fun Q X hQ => K_X5_takesElement hG hM hB p1 v2.2 e1 hQ) ?_
      refine xw_ald (show xm_Imp g Γ 36 (xi_ald 0 37) from xs_aload_n hΓ dX5_element_36) rfl ?_
      refine xw_ild (show xm_Imp g Γ 37 (xi_ild 2 38) from xs_iload_n hΓ dX5_element_37) rfl ?_
      refine xw_mv1 (show xm_Imp g Γ 38 (xi_vir g 4 M_X5_out 1 1 41) from xs_invV hG hΓ k_X5_out rfl (ci := 4) rfl q3337 q3339 qs99 dX5_element_38) rfl (fun Q X hQ => K_X5_out hG hM hB p2 v3 rfl hQ) ?_
      exact xw_iret (show xm_Imp g Γ 41 (xi_iret .int _) from xs_ireturn hΓ rfl dX5_element_41) (xn_int _) (hP0 _ (xl_fin e hp))
noncomputable def D_X5_bits_4 (l0 : Int32) (s : Int32 × Int32) : Option ((Int32 × Int32) ⊕ (Int32)) :=
 (if 8 ≤ s.2 then
 xl_o (some (s.1)) else
 some (Sum.inl (s.1 + ((l0 >>> (s.2 &&& 31)) &&& 1), s.2 + 1)))
noncomputable def L_X5_bits_4 (l0 : Int32) (s : Int32 × Int32) : Option (Int32) := xl_loop (D_X5_bits_4 l0) s
noncomputable def F_X5_bits (p0 : Int32) : Option (Int32) :=
 L_X5_bits_4 p0 (0, 0)
set_option maxHeartbeats 4000000 in
theorem K_X5_bits {g : xm_G} (hG : xm_Gw g) {h : xm_H} (p0 : Int32) {o : Int32} (e : F_X5_bits p0 = some o) {Q : xm_P} {X : xm_X} (hQ : Q (some (.int o)) h) : xm_Run g M_X5_bits 1 [.int p0] h 0 0 Q X := by
  refine xm_Run.of pn_StringTableauModel (Nat.le_of_ble_eq_true rfl) (fun Γ hΓ => ?_)
  obtain ⟨P0, hP0, hp⟩ : ∃ P : Int32 → Prop, (∀ o, P o → Q (some (.int o)) h) ∧ P o := ⟨fun o => Q (some (.int o)) h, fun _ h => h, hQ⟩
  clear hQ
  show xm_W g Γ 0 [some (.int p0), none, none] [] h 0 0
  have hL_4 : ∀ (l0 : Int32) (s : Int32 × Int32) (o : Int32), L_X5_bits_4 l0 s = some o → P0 o → xm_W g Γ 4 [some (.int l0), some (.int s.1), some (.int s.2)] [] h 0 0 := by
    intro l0
    refine xl_rule (WS := fun s : Int32 × Int32 => xm_W g Γ 4 [some (.int l0), some (.int s.1), some (.int s.2)] [] h 0 0) ?_
    intro s o e hp
    obtain ⟨P1, hP1, hp⟩ : ∃ P : (Int32 × Int32) ⊕ (Int32) → Prop, (∀ o, P o → xl_P (fun s : Int32 × Int32 => xm_W g Γ 4 [some (.int l0), some (.int s.1), some (.int s.2)] [] h 0 0) P0 o) ∧ P o := ⟨_, fun _ h => h, hp⟩
    unfold D_X5_bits_4 at e
    refine xw_ild (show xm_Imp g Γ 4 (xi_ild 2 5) from xs_iload_n hΓ dX5_bits_4) rfl ?_
    refine xw_psh (v := (.int (8))) (show xm_Imp g Γ 5 (xi_psh (.int (8)) 7) from xs_bipush hΓ dX5_bits_5 (by decide)) ?_
    refine xw_ic (show xm_Imp g Γ 7 (xi_ic (fun x y => y ≤ x) 24 10) from xs_icmp_ge hΓ dX5_bits_7 (by decide)) (fun c => ?_) (fun c => ?_)
    · rw [if_pos c] at e
      obtain ⟨_, e, hp⟩ := xl_o_s e (hP1 _ hp)
      refine xw_ild (show xm_Imp g Γ 24 (xi_ild 1 25) from xs_iload_n hΓ dX5_bits_24) rfl ?_
      exact xw_iret (show xm_Imp g Γ 25 (xi_iret .int _) from xs_ireturn hΓ rfl dX5_bits_25) (xn_int _) (hP0 _ (xl_fin e hp))
    · rw [if_neg c] at e
      refine xw_ild (show xm_Imp g Γ 10 (xi_ild 1 11) from xs_iload_n hΓ dX5_bits_10) rfl ?_
      refine xw_ild (show xm_Imp g Γ 11 (xi_ild 0 12) from xs_iload_n hΓ dX5_bits_11) rfl ?_
      refine xw_ild (show xm_Imp g Γ 12 (xi_ild 2 13) from xs_iload_n hΓ dX5_bits_12) rfl ?_
      refine xw_ii (show xm_Imp g Γ 13 (xi_ii (fun x y => x >>> (y &&& 31)) 14) from xs_ishr hΓ dX5_bits_13) ?_
      refine xw_psh (v := (.int (1))) (show xm_Imp g Γ 14 (xi_psh (.int (1)) 15) from xs_iconst hΓ dX5_bits_14 (by decide)) ?_
      refine xw_ii (show xm_Imp g Γ 15 (xi_ii (fun x y => x &&& y) 16) from xs_iand hΓ dX5_bits_15) ?_
      refine xw_ii (show xm_Imp g Γ 16 (xi_ii (fun x y => x + y) 17) from xs_iadd hΓ dX5_bits_16) ?_
      refine xw_ist (ls' := [some (.int l0), some (.int (s.1 + ((l0 >>> (s.2 &&& 31)) &&& 1))), some (.int s.2)]) (show xm_Imp g Γ 17 (xi_ist 1 18) from xs_istore_n hΓ dX5_bits_17 (Nat.le_of_ble_eq_true rfl)) rfl ?_
      refine xw_inc (v := (1)) (ls' := [some (.int l0), some (.int (s.1 + ((l0 >>> (s.2 &&& 31)) &&& 1))), some (.int (s.2 + 1))]) (show xm_Imp g Γ 18 (xi_inc 2 (1) 21) from xs_iinc hΓ dX5_bits_18 (by decide) (Nat.le_of_ble_eq_true rfl)) rfl rfl ?_
      refine xw_goto (show xm_Imp g Γ 21 (xi_goto 4) from xs_goto hΓ dX5_bits_21 (by decide)) ?_
      have hq := xl_P_inl (hP1 _ (xl_fin e hp)); exact hq
  unfold F_X5_bits at e
  refine xw_psh (v := (.int (0))) (show xm_Imp g Γ 0 (xi_psh (.int (0)) 1) from xs_iconst hΓ dX5_bits_0 (by decide)) ?_
  refine xw_ist (ls' := [some (.int p0), some (.int 0), none]) (show xm_Imp g Γ 1 (xi_ist 1 2) from xs_istore_n hΓ dX5_bits_1 (Nat.le_of_ble_eq_true rfl)) rfl ?_
  refine xw_psh (v := (.int (0))) (show xm_Imp g Γ 2 (xi_psh (.int (0)) 3) from xs_iconst hΓ dX5_bits_2 (by decide)) ?_
  refine xw_ist (ls' := [some (.int p0), some (.int 0), some (.int 0)]) (show xm_Imp g Γ 3 (xi_ist 2 4) from xs_istore_n hΓ dX5_bits_3 (Nat.le_of_ble_eq_true rfl)) rfl ?_
  exact hL_4 _ _ _ e hp
noncomputable def F_X5_weight (σ : xM_S) : Option (Int32) :=
 xo_b (F_X5_bits ((σ.1 6) ||| (σ.1 7))) (fun v1 =>
 some (v1))
set_option maxHeartbeats 4000000 in
theorem K_X5_weight {g : xm_G} (hG : xm_Gw g) {h0 : xm_H} {m : Nat} {ad : Nat → Nat} (hM : xM_ok h0 m ad) (hB : xk_B g h0)  (σ : xM_S) {o : Int32} (e : F_X5_weight σ = some o) {Q : xm_P} {X : xm_X} (hQ : Q (some (.int o)) (xMp h0 m ad σ)) : xm_Run g M_X5_weight 2 [.ref m] (xMp h0 m ad σ) 0 0 Q X := by
  refine xm_Run.of pn_StringTableauModel (Nat.le_of_ble_eq_true rfl) (fun Γ hΓ => ?_)
  obtain ⟨P0, hP0, hp⟩ : ∃ P : Int32 → Prop, (∀ o, P o → Q (some (.int o)) (xMp h0 m ad σ)) ∧ P o := ⟨fun o => Q (some (.int o)) (xMp h0 m ad σ), fun _ h => h, hQ⟩
  clear hQ
  show xm_W g Γ 0 [some (.ref m)] [] (xMp h0 m ad σ) 0 0
  unfold F_X5_weight at e
  refine xw_ald (show xm_Imp g Γ 0 (xi_ald 0 1) from xs_aload_n hΓ dX5_weight_0) rfl ?_
  refine xw_mgi (v := (σ.1 6)) (show xm_Imp g Γ 1 (xi_get 4 6 4) from xs_get hG hΓ (ci := 4) (kf := 6) rfl (Nat.le_of_ble_eq_true rfl) q2856 dX5_weight_1) (fun _ => rfl) rfl ?_
  refine xw_ald (show xm_Imp g Γ 4 (xi_ald 0 5) from xs_aload_n hΓ dX5_weight_4) rfl ?_
  refine xw_mgi (v := (σ.1 7)) (show xm_Imp g Γ 5 (xi_get 4 7 8) from xs_get hG hΓ (ci := 4) (kf := 7) rfl (Nat.le_of_ble_eq_true rfl) q2857 dX5_weight_5) (fun _ => rfl) rfl ?_
  refine xw_ii (show xm_Imp g Γ 8 (xi_ii (fun x y => x ||| y) 9) from xs_ior hΓ dX5_weight_8) ?_
  obtain ⟨v1, e1, e⟩ := xo_b_s e
  refine xw_sv1 (show xm_Imp g Γ 9 (xi_inv g M_X5_bits 1 1 12) from xs_invS hG hΓ k_X5_bits rfl q3349 q3350 dX5_weight_9) rfl (fun Q X hQ => K_X5_bits hG ((σ.1 6) ||| (σ.1 7)) e1 hQ) ?_
  exact xw_iret (show xm_Imp g Γ 12 (xi_iret .int _) from xs_ireturn hΓ rfl dX5_weight_12) (xn_int _) (hP0 _ (xl_fin e hp))
noncomputable def B_X5_weights_34 (l1 : Int32) (l2 : Int32) (l3 : Int32) (σ : xM_S) : Option ((Int32 × Int32 × xM_S) ⊕ (Int32 × xM_S)) :=
 some (Sum.inl (l2, l3 + 1, σ))
noncomputable def D_X5_weights_9 (l1 : Int32) (s : Int32 × Int32 × xM_S) : Option ((Int32 × Int32 × xM_S) ⊕ (Int32 × xM_S)) :=
 (if (F_X5_sets s.2.2) ≤ s.2.1 then
 xl_o (some ((s.1, s.2.2))) else
 xo_b (F_X5_takesElement s.2.1 s.2.2) (fun v1 =>
 xo_b (F_X5_weight v1) (fun v2 =>
 B_X5_weights_34 l1 (if v2 = l1 then s.1 + 1 else s.1) s.2.1 v1)))
noncomputable def L_X5_weights_9 (l1 : Int32) (s : Int32 × Int32 × xM_S) : Option (Int32 × xM_S) := xl_loop (D_X5_weights_9 l1) s
noncomputable def F_X5_weights (p1 : Int32) (σ : xM_S) : Option (Int32 × xM_S) :=
 L_X5_weights_9 p1 (0, 0, (xM_f σ 0 0))
set_option maxHeartbeats 4000000 in
theorem K_X5_weights {g : xm_G} (hG : xm_Gw g) {h0 : xm_H} {m : Nat} {ad : Nat → Nat} (hM : xM_ok h0 m ad) (hB : xk_B g h0) (p1 : Int32) (σ : xM_S) {o : Int32 × xM_S} (e : F_X5_weights p1 σ = some o) {Q : xm_P} {X : xm_X} (hQ : Q (some (.int o.1)) (xMp h0 m ad o.2)) : xm_Run g M_X5_weights 6 [.ref m, .int p1] (xMp h0 m ad σ) 0 0 Q X := by
  refine xm_Run.of pn_StringTableauModel (Nat.le_of_ble_eq_true rfl) (fun Γ hΓ => ?_)
  obtain ⟨P0, hP0, hp⟩ : ∃ P : Int32 × xM_S → Prop, (∀ o, P o → Q (some (.int o.1)) (xMp h0 m ad o.2)) ∧ P o := ⟨fun o => Q (some (.int o.1)) (xMp h0 m ad o.2), fun _ h => h, hQ⟩
  clear hQ
  show xm_W g Γ 0 [some (.ref m), some (.int p1), none, none] [] (xMp h0 m ad σ) 0 0
  have hL_9 : ∀ (l1 : Int32) (s : Int32 × Int32 × xM_S) (o : Int32 × xM_S), L_X5_weights_9 l1 s = some o → P0 o → xm_W g Γ 9 [some (.ref m), some (.int l1), some (.int s.1), some (.int s.2.1)] [] (xMp h0 m ad s.2.2) 0 0 := by
    intro l1
    refine xl_rule (WS := fun s : Int32 × Int32 × xM_S => xm_W g Γ 9 [some (.ref m), some (.int l1), some (.int s.1), some (.int s.2.1)] [] (xMp h0 m ad s.2.2) 0 0) ?_
    intro s o e hp
    obtain ⟨P1, hP1, hp⟩ : ∃ P : (Int32 × Int32 × xM_S) ⊕ (Int32 × xM_S) → Prop, (∀ o, P o → xl_P (fun s : Int32 × Int32 × xM_S => xm_W g Γ 9 [some (.ref m), some (.int l1), some (.int s.1), some (.int s.2.1)] [] (xMp h0 m ad s.2.2) 0 0) P0 o) ∧ P o := ⟨_, fun _ h => h, hp⟩
    have hB_34 : ∀ (l2 : Int32) (l3 : Int32) (σ : xM_S) (o : (Int32 × Int32 × xM_S) ⊕ (Int32 × xM_S)), B_X5_weights_34 l1 l2 l3 σ = some o → P1 o → xm_W g Γ 34 [some (.ref m), some (.int l1), some (.int l2), some (.int l3)] [] (xMp h0 m ad σ) 0 0 := by
      intro l2 l3 σ o e hp
      unfold B_X5_weights_34 at e
      refine xw_inc (v := (1)) (ls' := [some (.ref m), some (.int l1), some (.int l2), some (.int (l3 + 1))]) (show xm_Imp g Γ 34 (xi_inc 3 (1) 37) from xs_iinc hΓ dX5_weights_34 (by decide) (Nat.le_of_ble_eq_true rfl)) rfl rfl ?_
      refine xw_goto (show xm_Imp g Γ 37 (xi_goto 9) from xs_goto hΓ dX5_weights_37 (by decide)) ?_
      have hq := xl_P_inl (hP1 _ (xl_fin e hp)); exact hq
    unfold D_X5_weights_9 at e
    refine xw_ild (show xm_Imp g Γ 9 (xi_ild 3 10) from xs_iload_n hΓ dX5_weights_9) rfl ?_
    refine xw_ald (show xm_Imp g Γ 10 (xi_ald 0 11) from xs_aload_n hΓ dX5_weights_10) rfl ?_
    refine xw_mv0 (show xm_Imp g Γ 11 (xi_vir g 4 M_X5_sets 1 0 14) from xs_invV hG hΓ k_X5_sets rfl (ci := 4) rfl q3073 q3075 qs61 dX5_weights_11) rfl (fun Q X hQ => K_X5_sets hG hM hB s.2.2 rfl hQ) ?_
    refine xw_ic (show xm_Imp g Γ 14 (xi_ic (fun x y => y ≤ x) 40 17) from xs_icmp_ge hΓ dX5_weights_14 (by decide)) (fun c => ?_) (fun c => ?_)
    · rw [if_pos c] at e
      obtain ⟨_, e, hp⟩ := xl_o_s e (hP1 _ hp)
      refine xw_ild (show xm_Imp g Γ 40 (xi_ild 2 41) from xs_iload_n hΓ dX5_weights_40) rfl ?_
      exact xw_iret (show xm_Imp g Γ 41 (xi_iret .int _) from xs_ireturn hΓ rfl dX5_weights_41) (xn_int _) (hP0 _ (xl_fin e hp))
    · rw [if_neg c] at e
      refine xw_ald (show xm_Imp g Γ 17 (xi_ald 0 18) from xs_aload_n hΓ dX5_weights_17) rfl ?_
      refine xw_ild (show xm_Imp g Γ 18 (xi_ild 3 19) from xs_iload_n hΓ dX5_weights_18) rfl ?_
      obtain ⟨v1, e1, e⟩ := xo_b_s e
      refine xw_mu1 (show xm_Imp g Γ 19 (xi_vir g 4 M_X5_takesElement 5 1 22) from xs_invV hG hΓ k_X5_takesElement rfl (ci := 4) rfl q3097 q3099 qs66 dX5_weights_19) rfl (fun Q X hQ => K_X5_takesElement hG hM hB s.2.1 s.2.2 e1 hQ) ?_
      refine xw_ald (show xm_Imp g Γ 22 (xi_ald 0 23) from xs_aload_n hΓ dX5_weights_22) rfl ?_
      obtain ⟨v2, e1, e⟩ := xo_b_s e
      refine xw_mv0 (show xm_Imp g Γ 23 (xi_vir g 4 M_X5_weight 2 0 26) from xs_invV hG hΓ k_X5_weight rfl (ci := 4) rfl q3345 q3347 qs100 dX5_weights_23) rfl (fun Q X hQ => K_X5_weight hG hM hB v1 e1 hQ) ?_
      refine xw_ild (show xm_Imp g Γ 26 (xi_ild 1 27) from xs_iload_n hΓ dX5_weights_26) rfl ?_
      refine xw_ic (show xm_Imp g Γ 27 (xi_ic (fun x y => x = y) 30 34) from xs_icmp_ne hΓ dX5_weights_27 (by decide)) (fun c => ?_) (fun c => ?_)
      · rw [if_pos c] at e
        refine xw_ild (show xm_Imp g Γ 30 (xi_ild 2 31) from xs_iload_n hΓ dX5_weights_30) rfl ?_
        refine xw_psh (v := (.int (1))) (show xm_Imp g Γ 31 (xi_psh (.int (1)) 32) from xs_iconst hΓ dX5_weights_31 (by decide)) ?_
        refine xw_ii (show xm_Imp g Γ 32 (xi_ii (fun x y => x + y) 33) from xs_iadd hΓ dX5_weights_32) ?_
        refine xw_ist (ls' := [some (.ref m), some (.int l1), some (.int (s.1 + 1)), some (.int s.2.1)]) (show xm_Imp g Γ 33 (xi_ist 2 34) from xs_istore_n hΓ dX5_weights_33 (Nat.le_of_ble_eq_true rfl)) rfl ?_
        exact hB_34 _ _ _ _ e hp
      · rw [if_neg c] at e
        exact hB_34 _ _ _ _ e hp
  unfold F_X5_weights at e
  refine xw_ald (show xm_Imp g Γ 0 (xi_ald 0 1) from xs_aload_n hΓ dX5_weights_0) rfl ?_
  refine xw_psh (v := (.int (0))) (show xm_Imp g Γ 1 (xi_psh (.int (0)) 2) from xs_iconst hΓ dX5_weights_1 (by decide)) ?_
  refine xw_mpi (show xm_Imp g Γ 2 (xi_put 4 0 (.int) 5) from xs_put hG hΓ (ci := 4) (kf := 0) rfl (Nat.le_of_ble_eq_true rfl) rfl (by decide +kernel) q2850 dX5_weights_2) (fun _ _ => rfl) ⟨rfl, rfl⟩ ?_
  refine xw_psh (v := (.int (0))) (show xm_Imp g Γ 5 (xi_psh (.int (0)) 6) from xs_iconst hΓ dX5_weights_5 (by decide)) ?_
  refine xw_ist (ls' := [some (.ref m), some (.int p1), some (.int 0), none]) (show xm_Imp g Γ 6 (xi_ist 2 7) from xs_istore_n hΓ dX5_weights_6 (Nat.le_of_ble_eq_true rfl)) rfl ?_
  refine xw_psh (v := (.int (0))) (show xm_Imp g Γ 7 (xi_psh (.int (0)) 8) from xs_iconst hΓ dX5_weights_7 (by decide)) ?_
  refine xw_ist (ls' := [some (.ref m), some (.int p1), some (.int 0), some (.int 0)]) (show xm_Imp g Γ 8 (xi_ist 3 9) from xs_istore_n hΓ dX5_weights_8 (Nat.le_of_ble_eq_true rfl)) rfl ?_
  exact hL_9 _ _ _ e hp
