/-! THE REFERENCE as functions (printed by gen/mkmfun.py) -/
set_option maxRecDepth 100000
noncomputable def D_X5_begins_38 (l1 : Int32) (s : Int32 × xM_S) : Option ((Int32 × xM_S) ⊕ (xM_S)) :=
 (if l1 ≤ s.1 then
 xl_o (some (xM_f s.2 5 0)) else
 xo_b (xa_ix 530 (14 + s.1)) (fun j1 =>
 some (Sum.inl (s.1 + 1, (xM_a s.2 1 j1 (1 <<< (s.1 &&& 31)))))))
noncomputable def L_X5_begins_38 (l1 : Int32) (s : Int32 × xM_S) : Option (xM_S) := xl_loop (D_X5_begins_38 l1) s
noncomputable def D_X5_begins_2 (l1 : Int32) (l2 : Int32) (s : Int32 × xM_S) : Option ((Int32 × xM_S) ⊕ (xM_S)) :=
 (if 530 ≤ s.1 then
 xl_o (L_X5_begins_38 l1 (0, (xM_a (xM_a s.2 1 0 l1) 1 1 l2))) else
 xo_b (xa_ix 530 s.1) (fun j2 =>
 some (Sum.inl (s.1 + 1, (xM_a s.2 1 j2 0)))))
noncomputable def L_X5_begins_2 (l1 : Int32) (l2 : Int32) (s : Int32 × xM_S) : Option (xM_S) := xl_loop (D_X5_begins_2 l1 l2) s
noncomputable def F_X5_begins (p1 : Int32) (p2 : Int32) (σ : xM_S) : Option (xM_S) :=
 L_X5_begins_2 p1 p2 (0, σ)
set_option maxHeartbeats 4000000 in
theorem K_X5_begins {g : xm_G} (hG : xm_Gw g) {h0 : xm_H} {m : Nat} {ad : Nat → Nat} (hM : xM_ok h0 m ad) (hB : xk_B g h0) (p1 : Int32) (p2 : Int32) (σ : xM_S) {o : xM_S} (e : F_X5_begins p1 p2 σ = some o) {Q : xm_P} {X : xm_X} (hQ : Q none (xMp h0 m ad o)) : xm_Run g M_X5_begins 1 [.ref m, .int p1, .int p2] (xMp h0 m ad σ) 0 0 Q X := by
  refine xm_Run.of pn_StringTableauModel (Nat.le_of_ble_eq_true rfl) (fun Γ hΓ => ?_)
  obtain ⟨P0, hP0, hp⟩ : ∃ P : xM_S → Prop, (∀ o, P o → Q none (xMp h0 m ad o)) ∧ P o := ⟨fun o => Q none (xMp h0 m ad o), fun _ h => h, hQ⟩
  clear hQ
  show xm_W g Γ 0 [some (.ref m), some (.int p1), some (.int p2), none] [] (xMp h0 m ad σ) 0 0
  have hL_38 : ∀ (l1 : Int32) (s : Int32 × xM_S) (o : xM_S), L_X5_begins_38 l1 s = some o → P0 o → xm_W g Γ 38 [some (.ref m), some (.int l1), none, some (.int s.1)] [] (xMp h0 m ad s.2) 0 0 := by
    intro l1
    refine xl_rule (WS := fun s : Int32 × xM_S => xm_W g Γ 38 [some (.ref m), some (.int l1), none, some (.int s.1)] [] (xMp h0 m ad s.2) 0 0) ?_
    intro s o e hp
    obtain ⟨P1, hP1, hp⟩ : ∃ P : (Int32 × xM_S) ⊕ (xM_S) → Prop, (∀ o, P o → xl_P (fun s : Int32 × xM_S => xm_W g Γ 38 [some (.ref m), some (.int l1), none, some (.int s.1)] [] (xMp h0 m ad s.2) 0 0) P0 o) ∧ P o := ⟨_, fun _ h => h, hp⟩
    unfold D_X5_begins_38 at e
    refine xw_ild (show xm_Imp g Γ 38 (xi_ild 3 39) from xs_iload_n hΓ dX5_begins_38) rfl ?_
    refine xw_ild (show xm_Imp g Γ 39 (xi_ild 1 40) from xs_iload_n hΓ dX5_begins_39) rfl ?_
    refine xw_ic (show xm_Imp g Γ 40 (xi_ic (fun x y => y ≤ x) 61 43) from xs_icmp_ge hΓ dX5_begins_40 (by decide)) (fun c => ?_) (fun c => ?_)
    · rw [if_pos c] at e
      obtain ⟨_, e, hp⟩ := xl_o_s e (hP1 _ hp)
      refine xw_ald (show xm_Imp g Γ 61 (xi_ald 0 62) from xs_aload_n hΓ dX5_begins_61) rfl ?_
      refine xw_psh (v := (.int (0))) (show xm_Imp g Γ 62 (xi_psh (.int (0)) 63) from xs_iconst hΓ dX5_begins_62 (by decide)) ?_
      refine xw_mpi (show xm_Imp g Γ 63 (xi_put 4 5 (.int) 66) from xs_put hG hΓ (ci := 4) (kf := 5) rfl (Nat.le_of_ble_eq_true rfl) rfl (by decide +kernel) q2855 dX5_begins_63) (fun _ _ => rfl) ⟨rfl, rfl⟩ ?_
      exact xw_vret (show xm_Imp g Γ 66 (xi_vret _) from xs_return hΓ rfl dX5_begins_66) (hP0 _ (xl_fin e hp))
    · rw [if_neg c] at e
      refine xw_ald (show xm_Imp g Γ 43 (xi_ald 0 44) from xs_aload_n hΓ dX5_begins_43) rfl ?_
      refine xw_mga (k := 1) (show xm_Imp g Γ 44 (xi_get 4 1 47) from xs_get hG hΓ (ci := 4) (kf := 1) rfl (Nat.le_of_ble_eq_true rfl) q2851 dX5_begins_44) (fun _ => rfl) ?_
      refine xw_psh (v := (.int (14))) (show xm_Imp g Γ 47 (xi_psh (.int (14)) 49) from xs_bipush hΓ dX5_begins_47 (by decide)) ?_
      refine xw_ild (show xm_Imp g Γ 49 (xi_ild 3 50) from xs_iload_n hΓ dX5_begins_49) rfl ?_
      refine xw_ii (show xm_Imp g Γ 50 (xi_ii (fun x y => x + y) 51) from xs_iadd hΓ dX5_begins_50) ?_
      refine xw_psh (v := (.int (1))) (show xm_Imp g Γ 51 (xi_psh (.int (1)) 52) from xs_iconst hΓ dX5_begins_51 (by decide)) ?_
      refine xw_ild (show xm_Imp g Γ 52 (xi_ild 3 53) from xs_iload_n hΓ dX5_begins_52) rfl ?_
      refine xw_ii (show xm_Imp g Γ 53 (xi_ii (fun x y => x <<< (y &&& 31)) 54) from xs_ishl hΓ dX5_begins_53) ?_
      obtain ⟨j1, e1, e⟩ := xo_b_s e
      refine xw_mias (k := 1) (show xm_Imp g Γ 54 (xi_ias 55) from xs_ias hG hΓ dX5_begins_54) hM (by decide) rfl e1 ?_
      refine xw_inc (v := (1)) (ls' := [some (.ref m), some (.int l1), none, some (.int (s.1 + 1))]) (show xm_Imp g Γ 55 (xi_inc 3 (1) 58) from xs_iinc hΓ dX5_begins_55 (by decide) (Nat.le_of_ble_eq_true rfl)) rfl rfl ?_
      refine xw_goto (show xm_Imp g Γ 58 (xi_goto 38) from xs_goto hΓ dX5_begins_58 (by decide)) ?_
      have hq := xl_P_inl (hP1 _ (xl_fin e hp)); exact hq
  have hL_2 : ∀ (l1 : Int32) (l2 : Int32) (s : Int32 × xM_S) (o : xM_S), L_X5_begins_2 l1 l2 s = some o → P0 o → xm_W g Γ 2 [some (.ref m), some (.int l1), some (.int l2), some (.int s.1)] [] (xMp h0 m ad s.2) 0 0 := by
    intro l1 l2
    refine xl_rule (WS := fun s : Int32 × xM_S => xm_W g Γ 2 [some (.ref m), some (.int l1), some (.int l2), some (.int s.1)] [] (xMp h0 m ad s.2) 0 0) ?_
    intro s o e hp
    obtain ⟨P1, hP1, hp⟩ : ∃ P : (Int32 × xM_S) ⊕ (xM_S) → Prop, (∀ o, P o → xl_P (fun s : Int32 × xM_S => xm_W g Γ 2 [some (.ref m), some (.int l1), some (.int l2), some (.int s.1)] [] (xMp h0 m ad s.2) 0 0) P0 o) ∧ P o := ⟨_, fun _ h => h, hp⟩
    unfold D_X5_begins_2 at e
    refine xw_ild (show xm_Imp g Γ 2 (xi_ild 3 3) from xs_iload_n hΓ dX5_begins_2) rfl ?_
    refine xw_psh (v := (.int (530))) (show xm_Imp g Γ 3 (xi_psh (.int (530)) 6) from xs_sipush hΓ dX5_begins_3 (by decide)) ?_
    refine xw_ic (show xm_Imp g Γ 6 (xi_ic (fun x y => y ≤ x) 22 9) from xs_icmp_ge hΓ dX5_begins_6 (by decide)) (fun c => ?_) (fun c => ?_)
    · rw [if_pos c] at e
      obtain ⟨_, e, hp⟩ := xl_o_s e (hP1 _ hp)
      refine xw_ald (show xm_Imp g Γ 22 (xi_ald 0 23) from xs_aload_n hΓ dX5_begins_22) rfl ?_
      refine xw_mga (k := 1) (show xm_Imp g Γ 23 (xi_get 4 1 26) from xs_get hG hΓ (ci := 4) (kf := 1) rfl (Nat.le_of_ble_eq_true rfl) q2851 dX5_begins_23) (fun _ => rfl) ?_
      refine xw_psh (v := (.int (0))) (show xm_Imp g Γ 26 (xi_psh (.int (0)) 27) from xs_iconst hΓ dX5_begins_26 (by decide)) ?_
      refine xw_ild (show xm_Imp g Γ 27 (xi_ild 1 28) from xs_iload_n hΓ dX5_begins_27) rfl ?_
      refine xw_mias (k := 1) (j := 0) (show xm_Imp g Γ 28 (xi_ias 29) from xs_ias hG hΓ dX5_begins_28) hM (by decide) rfl rfl ?_
      refine xw_ald (show xm_Imp g Γ 29 (xi_ald 0 30) from xs_aload_n hΓ dX5_begins_29) rfl ?_
      refine xw_mga (k := 1) (show xm_Imp g Γ 30 (xi_get 4 1 33) from xs_get hG hΓ (ci := 4) (kf := 1) rfl (Nat.le_of_ble_eq_true rfl) q2851 dX5_begins_30) (fun _ => rfl) ?_
      refine xw_psh (v := (.int (1))) (show xm_Imp g Γ 33 (xi_psh (.int (1)) 34) from xs_iconst hΓ dX5_begins_33 (by decide)) ?_
      refine xw_ild (show xm_Imp g Γ 34 (xi_ild 2 35) from xs_iload_n hΓ dX5_begins_34) rfl ?_
      refine xw_mias (k := 1) (j := 1) (show xm_Imp g Γ 35 (xi_ias 36) from xs_ias hG hΓ dX5_begins_35) hM (by decide) rfl rfl ?_
      refine xw_psh (v := (.int (0))) (show xm_Imp g Γ 36 (xi_psh (.int (0)) 37) from xs_iconst hΓ dX5_begins_36 (by decide)) ?_
      refine xw_ist (ls' := [some (.ref m), some (.int l1), some (.int l2), some (.int 0)]) (show xm_Imp g Γ 37 (xi_ist 3 38) from xs_istore_n hΓ dX5_begins_37 (Nat.le_of_ble_eq_true rfl)) rfl ?_
      exact xm_lx (hL_38 _ _ _ e hp) (And.intro rfl (And.intro rfl (And.intro rfl (trivial))))
    · rw [if_neg c] at e
      refine xw_ald (show xm_Imp g Γ 9 (xi_ald 0 10) from xs_aload_n hΓ dX5_begins_9) rfl ?_
      refine xw_mga (k := 1) (show xm_Imp g Γ 10 (xi_get 4 1 13) from xs_get hG hΓ (ci := 4) (kf := 1) rfl (Nat.le_of_ble_eq_true rfl) q2851 dX5_begins_10) (fun _ => rfl) ?_
      refine xw_ild (show xm_Imp g Γ 13 (xi_ild 3 14) from xs_iload_n hΓ dX5_begins_13) rfl ?_
      refine xw_psh (v := (.int (0))) (show xm_Imp g Γ 14 (xi_psh (.int (0)) 15) from xs_iconst hΓ dX5_begins_14 (by decide)) ?_
      obtain ⟨j2, e1, e⟩ := xo_b_s e
      refine xw_mias (k := 1) (show xm_Imp g Γ 15 (xi_ias 16) from xs_ias hG hΓ dX5_begins_15) hM (by decide) rfl e1 ?_
      refine xw_inc (v := (1)) (ls' := [some (.ref m), some (.int l1), some (.int l2), some (.int (s.1 + 1))]) (show xm_Imp g Γ 16 (xi_inc 3 (1) 19) from xs_iinc hΓ dX5_begins_16 (by decide) (Nat.le_of_ble_eq_true rfl)) rfl rfl ?_
      refine xw_goto (show xm_Imp g Γ 19 (xi_goto 2) from xs_goto hΓ dX5_begins_19 (by decide)) ?_
      have hq := xl_P_inl (hP1 _ (xl_fin e hp)); exact hq
  unfold F_X5_begins at e
  refine xw_psh (v := (.int (0))) (show xm_Imp g Γ 0 (xi_psh (.int (0)) 1) from xs_iconst hΓ dX5_begins_0 (by decide)) ?_
  refine xw_ist (ls' := [some (.ref m), some (.int p1), some (.int p2), some (.int 0)]) (show xm_Imp g Γ 1 (xi_ist 3 2) from xs_istore_n hΓ dX5_begins_1 (Nat.le_of_ble_eq_true rfl)) rfl ?_
  exact hL_2 _ _ _ _ e hp
def F_X5_thrown (σ : xM_S) : Int32 :=
 (σ.1 0)
set_option maxHeartbeats 4000000 in
theorem K_X5_thrown {g : xm_G} (hG : xm_Gw g) {h0 : xm_H} {m : Nat} {ad : Nat → Nat} (hM : xM_ok h0 m ad) (hB : xk_B g h0)  (σ : xM_S) {o : Int32} (e : F_X5_thrown σ = o) {Q : xm_P} {X : xm_X} (hQ : Q (some (.int o)) (xMp h0 m ad σ)) : xm_Run g M_X5_thrown 1 [.ref m] (xMp h0 m ad σ) 0 0 Q X := by
  refine xm_Run.of pn_StringTableauModel (Nat.le_of_ble_eq_true rfl) (fun Γ hΓ => ?_)
  obtain ⟨P0, hP0, hp⟩ : ∃ P : Int32 → Prop, (∀ o, P o → Q (some (.int o)) (xMp h0 m ad σ)) ∧ P o := ⟨fun o => Q (some (.int o)) (xMp h0 m ad σ), fun _ h => h, hQ⟩
  clear hQ
  show xm_W g Γ 0 [some (.ref m)] [] (xMp h0 m ad σ) 0 0
  unfold F_X5_thrown at e
  refine xw_ald (show xm_Imp g Γ 0 (xi_ald 0 1) from xs_aload_n hΓ dX5_thrown_0) rfl ?_
  refine xw_mgi (v := (σ.1 0)) (show xm_Imp g Γ 1 (xi_get 4 0 4) from xs_get hG hΓ (ci := 4) (kf := 0) rfl (Nat.le_of_ble_eq_true rfl) q2850 dX5_thrown_1) (fun _ => rfl) rfl ?_
  exact xw_iret (show xm_Imp g Γ 4 (xi_iret .int _) from xs_ireturn hΓ rfl dX5_thrown_4) (xn_int _) (hP0 _ (xl_finV e hp))
noncomputable def B_X5_is_10 (l1 : Int32) (s1 : Int32) (σ : xM_S) : Option (Int32 × xM_S) :=
 xo_b (xb_chk .boolean l1) (fun _ =>
 some ((l1, (xM_f σ 0 s1))))
noncomputable def F_X5_is (p1 : Int32) (σ : xM_S) : Option (Int32 × xM_S) :=
 B_X5_is_10 p1 (if p1 = 0 then 1 else 0) σ
set_option maxHeartbeats 4000000 in
theorem K_X5_is {g : xm_G} (hG : xm_Gw g) {h0 : xm_H} {m : Nat} {ad : Nat → Nat} (hM : xM_ok h0 m ad) (hB : xk_B g h0) (p1 : Int32) (σ : xM_S) {o : Int32 × xM_S} (e : F_X5_is p1 σ = some o) {Q : xm_P} {X : xm_X} (hQ : Q (some (.int o.1)) (xMp h0 m ad o.2)) : xm_Run g M_X5_is 1 [.ref m, .int p1] (xMp h0 m ad σ) 0 0 Q X := by
  refine xm_Run.of pn_StringTableauModel (Nat.le_of_ble_eq_true rfl) (fun Γ hΓ => ?_)
  obtain ⟨P0, hP0, hp⟩ : ∃ P : Int32 × xM_S → Prop, (∀ o, P o → Q (some (.int o.1)) (xMp h0 m ad o.2)) ∧ P o := ⟨fun o => Q (some (.int o.1)) (xMp h0 m ad o.2), fun _ h => h, hQ⟩
  clear hQ
  show xm_W g Γ 0 [some (.ref m), some (.int p1)] [] (xMp h0 m ad σ) 0 0
  have hB_10 : ∀ (l1 : Int32) (s1 : Int32) (σ : xM_S) (o : Int32 × xM_S), B_X5_is_10 l1 s1 σ = some o → P0 o → xm_W g Γ 10 [none, some (.int l1)] [.int s1, .ref m] (xMp h0 m ad σ) 0 0 := by
    intro l1 s1 σ o e hp
    unfold B_X5_is_10 at e
    refine xw_mpi (show xm_Imp g Γ 10 (xi_put 4 0 (.int) 13) from xs_put hG hΓ (ci := 4) (kf := 0) rfl (Nat.le_of_ble_eq_true rfl) rfl (by decide +kernel) q2850 dX5_is_10) (fun _ _ => rfl) ⟨rfl, rfl⟩ ?_
    refine xw_ild (show xm_Imp g Γ 13 (xi_ild 1 14) from xs_iload_n hΓ dX5_is_13) rfl ?_
    obtain ⟨_, e1, e⟩ := xo_b_s e
    exact xw_iret (show xm_Imp g Γ 14 (xi_iret .boolean _) from xs_ireturn hΓ rfl dX5_is_14) (xb_of e1) (hP0 _ (xl_fin e hp))
  unfold F_X5_is at e
  refine xw_ald (show xm_Imp g Γ 0 (xi_ald 0 1) from xs_aload_n hΓ dX5_is_0) rfl ?_
  refine xw_ild (show xm_Imp g Γ 1 (xi_ild 1 2) from xs_iload_n hΓ dX5_is_1) rfl ?_
  refine xw_if (show xm_Imp g Γ 2 (xi_if (fun x => x = 0) 9 5) from xs_if_eq hΓ dX5_is_2 (by decide)) (fun c => ?_) (fun c => ?_)
  · rw [if_pos c] at e
    refine xw_psh (v := (.int (1))) (show xm_Imp g Γ 9 (xi_psh (.int (1)) 10) from xs_iconst hΓ dX5_is_9 (by decide)) ?_
    exact xm_lx (hB_10 _ _ _ _ e hp) (And.intro rfl (trivial))
  · rw [if_neg c] at e
    refine xw_psh (v := (.int (0))) (show xm_Imp g Γ 5 (xi_psh (.int (0)) 6) from xs_iconst hΓ dX5_is_5 (by decide)) ?_
    refine xw_goto (show xm_Imp g Γ 6 (xi_goto 10) from xs_goto hΓ dX5_is_6 (by decide)) ?_
    exact xm_lx (hB_10 _ _ _ _ e hp) (And.intro rfl (trivial))
noncomputable def D_X5_undo_33  (s : Int32 × xM_S) : Option ((Int32 × xM_S) ⊕ (Int32 × xM_S)) :=
 (if 530 ≤ s.1 then
 xl_o (some (((s.2.1 5), s.2))) else
 xo_b (xa_ix 5300 ((530 * (s.2.1 5)) + s.1)) (fun j2 =>
 xo_b (xa_ix 530 s.1) (fun j3 =>
 some (Sum.inl (s.1 + 1, (xM_a s.2 1 j3 (s.2.2 4 j2)))))))
noncomputable def L_X5_undo_33  (s : Int32 × xM_S) : Option (Int32 × xM_S) := xl_loop (D_X5_undo_33 ) s
noncomputable def B_X5_undo_13 (s1 : Int32) (σ : xM_S) : Option (Int32 × xM_S) :=
 xo_b (F_X5_is s1 σ) (fun v1 =>
 (if v1.1 = 0 then
 some ((0, v1.2)) else
 L_X5_undo_33 (0, (xM_f v1.2 5 ((v1.2.1 5) - 1)))))
noncomputable def F_X5_undo (σ : xM_S) : Option (Int32 × xM_S) :=
 B_X5_undo_13 (if (σ.1 5) ≤ 0 then 0 else 1) σ
set_option maxHeartbeats 4000000 in
theorem K_X5_undo {g : xm_G} (hG : xm_Gw g) {h0 : xm_H} {m : Nat} {ad : Nat → Nat} (hM : xM_ok h0 m ad) (hB : xk_B g h0)  (σ : xM_S) {o : Int32 × xM_S} (e : F_X5_undo σ = some o) {Q : xm_P} {X : xm_X} (hQ : Q (some (.int o.1)) (xMp h0 m ad o.2)) : xm_Run g M_X5_undo 2 [.ref m] (xMp h0 m ad σ) 0 0 Q X := by
  refine xm_Run.of pn_StringTableauModel (Nat.le_of_ble_eq_true rfl) (fun Γ hΓ => ?_)
  obtain ⟨P0, hP0, hp⟩ : ∃ P : Int32 × xM_S → Prop, (∀ o, P o → Q (some (.int o.1)) (xMp h0 m ad o.2)) ∧ P o := ⟨fun o => Q (some (.int o.1)) (xMp h0 m ad o.2), fun _ h => h, hQ⟩
  clear hQ
  show xm_W g Γ 0 [some (.ref m), none] [] (xMp h0 m ad σ) 0 0
  have hL_33 : ∀  (s : Int32 × xM_S) (o : Int32 × xM_S), L_X5_undo_33  s = some o → P0 o → xm_W g Γ 33 [some (.ref m), some (.int s.1)] [] (xMp h0 m ad s.2) 0 0 := by
    skip
    refine xl_rule (WS := fun s : Int32 × xM_S => xm_W g Γ 33 [some (.ref m), some (.int s.1)] [] (xMp h0 m ad s.2) 0 0) ?_
    intro s o e hp
    obtain ⟨P1, hP1, hp⟩ : ∃ P : (Int32 × xM_S) ⊕ (Int32 × xM_S) → Prop, (∀ o, P o → xl_P (fun s : Int32 × xM_S => xm_W g Γ 33 [some (.ref m), some (.int s.1)] [] (xMp h0 m ad s.2) 0 0) P0 o) ∧ P o := ⟨_, fun _ h => h, hp⟩
    unfold D_X5_undo_33 at e
    refine xw_ild (show xm_Imp g Γ 33 (xi_ild 1 34) from xs_iload_n hΓ dX5_undo_33) rfl ?_
    refine xw_psh (v := (.int (530))) (show xm_Imp g Γ 34 (xi_psh (.int (530)) 37) from xs_sipush hΓ dX5_undo_34 (by decide)) ?_
    refine xw_ic (show xm_Imp g Γ 37 (xi_ic (fun x y => y ≤ x) 67 40) from xs_icmp_ge hΓ dX5_undo_37 (by decide)) (fun c => ?_) (fun c => ?_)
    · rw [if_pos c] at e
      obtain ⟨_, e, hp⟩ := xl_o_s e (hP1 _ hp)
      refine xw_ald (show xm_Imp g Γ 67 (xi_ald 0 68) from xs_aload_n hΓ dX5_undo_67) rfl ?_
      refine xw_mgi (v := (s.2.1 5)) (show xm_Imp g Γ 68 (xi_get 4 5 71) from xs_get hG hΓ (ci := 4) (kf := 5) rfl (Nat.le_of_ble_eq_true rfl) q2855 dX5_undo_68) (fun _ => rfl) rfl ?_
      exact xw_iret (show xm_Imp g Γ 71 (xi_iret .int _) from xs_ireturn hΓ rfl dX5_undo_71) (xn_int _) (hP0 _ (xl_fin e hp))
    · rw [if_neg c] at e
      refine xw_ald (show xm_Imp g Γ 40 (xi_ald 0 41) from xs_aload_n hΓ dX5_undo_40) rfl ?_
      refine xw_mga (k := 1) (show xm_Imp g Γ 41 (xi_get 4 1 44) from xs_get hG hΓ (ci := 4) (kf := 1) rfl (Nat.le_of_ble_eq_true rfl) q2851 dX5_undo_41) (fun _ => rfl) ?_
      refine xw_ild (show xm_Imp g Γ 44 (xi_ild 1 45) from xs_iload_n hΓ dX5_undo_44) rfl ?_
      refine xw_ald (show xm_Imp g Γ 45 (xi_ald 0 46) from xs_aload_n hΓ dX5_undo_45) rfl ?_
      refine xw_mga (k := 4) (show xm_Imp g Γ 46 (xi_get 4 4 49) from xs_get hG hΓ (ci := 4) (kf := 4) rfl (Nat.le_of_ble_eq_true rfl) q2854 dX5_undo_46) (fun _ => rfl) ?_
      refine xw_psh (v := (.int (530))) (show xm_Imp g Γ 49 (xi_psh (.int (530)) 52) from xs_sipush hΓ dX5_undo_49 (by decide)) ?_
      refine xw_ald (show xm_Imp g Γ 52 (xi_ald 0 53) from xs_aload_n hΓ dX5_undo_52) rfl ?_
      refine xw_mgi (v := (s.2.1 5)) (show xm_Imp g Γ 53 (xi_get 4 5 56) from xs_get hG hΓ (ci := 4) (kf := 5) rfl (Nat.le_of_ble_eq_true rfl) q2855 dX5_undo_53) (fun _ => rfl) rfl ?_
      refine xw_ii (show xm_Imp g Γ 56 (xi_ii (fun x y => x * y) 57) from xs_imul hΓ dX5_undo_56) ?_
      refine xw_ild (show xm_Imp g Γ 57 (xi_ild 1 58) from xs_iload_n hΓ dX5_undo_57) rfl ?_
      refine xw_ii (show xm_Imp g Γ 58 (xi_ii (fun x y => x + y) 59) from xs_iadd hΓ dX5_undo_58) ?_
      obtain ⟨j2, e1, e⟩ := xo_b_s e
      refine xw_mial (k := 4) (v := (s.2.2 4 j2)) (show xm_Imp g Γ 59 (xi_ial 60) from xs_ial hG hΓ dX5_undo_59) hM (by decide) rfl e1 rfl ?_
      obtain ⟨j3, e1, e⟩ := xo_b_s e
      refine xw_mias (k := 1) (show xm_Imp g Γ 60 (xi_ias 61) from xs_ias hG hΓ dX5_undo_60) hM (by decide) rfl e1 ?_
      refine xw_inc (v := (1)) (ls' := [some (.ref m), some (.int (s.1 + 1))]) (show xm_Imp g Γ 61 (xi_inc 1 (1) 64) from xs_iinc hΓ dX5_undo_61 (by decide) (Nat.le_of_ble_eq_true rfl)) rfl rfl ?_
      refine xw_goto (show xm_Imp g Γ 64 (xi_goto 33) from xs_goto hΓ dX5_undo_64 (by decide)) ?_
      have hq := xl_P_inl (hP1 _ (xl_fin e hp)); exact hq
  have hB_13 : ∀ (s1 : Int32) (σ : xM_S) (o : Int32 × xM_S), B_X5_undo_13 s1 σ = some o → P0 o → xm_W g Γ 13 [some (.ref m), none] [.int s1, .ref m] (xMp h0 m ad σ) 0 0 := by
    intro s1 σ o e hp
    unfold B_X5_undo_13 at e
    obtain ⟨v1, e1, e⟩ := xo_b_s e
    refine xw_mv1 (show xm_Imp g Γ 13 (xi_vir g 4 M_X5_is 1 1 16) from xs_invV hG hΓ k_X5_is rfl (ci := 4) rfl q2986 q2988 qs46 dX5_undo_13) rfl (fun Q X hQ => K_X5_is hG hM hB s1 σ e1 hQ) ?_
    refine xw_if (show xm_Imp g Γ 16 (xi_if (fun x => x = 0) 19 21) from xs_if_ne hΓ dX5_undo_16 (by decide)) (fun c => ?_) (fun c => ?_)
    · rw [if_pos c] at e
      refine xw_psh (v := (.int (0))) (show xm_Imp g Γ 19 (xi_psh (.int (0)) 20) from xs_iconst hΓ dX5_undo_19 (by decide)) ?_
      exact xw_iret (show xm_Imp g Γ 20 (xi_iret .int _) from xs_ireturn hΓ rfl dX5_undo_20) (xn_int _) (hP0 _ (xl_fin e hp))
    · rw [if_neg c] at e
      refine xw_ald (show xm_Imp g Γ 21 (xi_ald 0 22) from xs_aload_n hΓ dX5_undo_21) rfl ?_
      refine xw_ald (show xm_Imp g Γ 22 (xi_ald 0 23) from xs_aload_n hΓ dX5_undo_22) rfl ?_
      refine xw_mgi (v := (v1.2.1 5)) (show xm_Imp g Γ 23 (xi_get 4 5 26) from xs_get hG hΓ (ci := 4) (kf := 5) rfl (Nat.le_of_ble_eq_true rfl) q2855 dX5_undo_23) (fun _ => rfl) rfl ?_
      refine xw_psh (v := (.int (1))) (show xm_Imp g Γ 26 (xi_psh (.int (1)) 27) from xs_iconst hΓ dX5_undo_26 (by decide)) ?_
      refine xw_ii (show xm_Imp g Γ 27 (xi_ii (fun x y => x - y) 28) from xs_isub hΓ dX5_undo_27) ?_
      refine xw_mpi (show xm_Imp g Γ 28 (xi_put 4 5 (.int) 31) from xs_put hG hΓ (ci := 4) (kf := 5) rfl (Nat.le_of_ble_eq_true rfl) rfl (by decide +kernel) q2855 dX5_undo_28) (fun _ _ => rfl) ⟨rfl, rfl⟩ ?_
      refine xw_psh (v := (.int (0))) (show xm_Imp g Γ 31 (xi_psh (.int (0)) 32) from xs_iconst hΓ dX5_undo_31 (by decide)) ?_
      refine xw_ist (ls' := [some (.ref m), some (.int 0)]) (show xm_Imp g Γ 32 (xi_ist 1 33) from xs_istore_n hΓ dX5_undo_32 (Nat.le_of_ble_eq_true rfl)) rfl ?_
      exact hL_33 _ _ e hp
  unfold F_X5_undo at e
  refine xw_ald (show xm_Imp g Γ 0 (xi_ald 0 1) from xs_aload_n hΓ dX5_undo_0) rfl ?_
  refine xw_ald (show xm_Imp g Γ 1 (xi_ald 0 2) from xs_aload_n hΓ dX5_undo_1) rfl ?_
  refine xw_mgi (v := (σ.1 5)) (show xm_Imp g Γ 2 (xi_get 4 5 5) from xs_get hG hΓ (ci := 4) (kf := 5) rfl (Nat.le_of_ble_eq_true rfl) q2855 dX5_undo_2) (fun _ => rfl) rfl ?_
  refine xw_if (show xm_Imp g Γ 5 (xi_if (fun x => x ≤ 0) 12 8) from xs_if_le hΓ dX5_undo_5 (by decide)) (fun c => ?_) (fun c => ?_)
  · rw [if_pos c] at e
    refine xw_psh (v := (.int (0))) (show xm_Imp g Γ 12 (xi_psh (.int (0)) 13) from xs_iconst hΓ dX5_undo_12 (by decide)) ?_
    exact hB_13 _ _ _ e hp
  · rw [if_neg c] at e
    refine xw_psh (v := (.int (1))) (show xm_Imp g Γ 8 (xi_psh (.int (1)) 9) from xs_iconst hΓ dX5_undo_8 (by decide)) ?_
    refine xw_goto (show xm_Imp g Γ 9 (xi_goto 13) from xs_goto hΓ dX5_undo_9 (by decide)) ?_
    exact hB_13 _ _ _ e hp
def B_X5_isIn_17  : Int32 :=
 0
def F_X5_isIn (p0 : Int64) (p2 : Int64) (p4 : Int64) : Int32 :=
 (if (lg_cmp p0 p2) < 0 then
 B_X5_isIn_17 else
 (if 0 < (lg_cmp p0 p4) then
 B_X5_isIn_17 else
 1))
set_option maxHeartbeats 4000000 in
theorem K_X5_isIn {g : xm_G} (hG : xm_Gw g) {h : xm_H} (p0 : Int64) (p2 : Int64) (p4 : Int64) {o : Int32} (e : F_X5_isIn p0 p2 p4 = o) {Q : xm_P} {X : xm_X} (hQ : Q (some (.int o)) h) : xm_Run g M_X5_isIn 1 [.long p0, .long p2, .long p4] h 0 0 Q X := by
  refine xm_Run.of pn_StringTableauModel (Nat.le_of_ble_eq_true rfl) (fun Γ hΓ => ?_)
  obtain ⟨P0, hP0, hp⟩ : ∃ P : Int32 → Prop, (∀ o, P o → Q (some (.int o)) h) ∧ P o := ⟨fun o => Q (some (.int o)) h, fun _ h => h, hQ⟩
  clear hQ
  show xm_W g Γ 0 [some (.long p0), none, some (.long p2), none, some (.long p4), none] [] h 0 0
  have hB_17 : ∀  (o : Int32), B_X5_isIn_17  = o → P0 o → xm_W g Γ 17 [none, none, none, none, none, none] [] h 0 0 := by
    intro  o e hp
    unfold B_X5_isIn_17 at e
    refine xw_psh (v := (.int (0))) (show xm_Imp g Γ 17 (xi_psh (.int (0)) 18) from xs_iconst hΓ dX5_isIn_17 (by decide)) ?_
    exact xw_iret (show xm_Imp g Γ 18 (xi_iret .boolean _) from xs_ireturn hΓ rfl dX5_isIn_18) rfl (hP0 _ (xl_finV e hp))
  unfold F_X5_isIn at e
  refine xw_lld (show xm_Imp g Γ 0 (xi_lld 0 1) from xs_lload_n hΓ dX5_isIn_0) rfl ?_
  refine xw_lld (show xm_Imp g Γ 1 (xi_lld 2 2) from xs_lload_n hΓ dX5_isIn_1) rfl ?_
  refine xw_lcmp (show xm_Imp g Γ 2 (xi_lcmp 3) from xs_lcmp hΓ dX5_isIn_2) ?_
  refine xw_if (show xm_Imp g Γ 3 (xi_if (fun x => x < 0) 17 6) from xs_if_lt hΓ dX5_isIn_3 (by decide)) (fun c => ?_) (fun c => ?_)
  · rw [if_pos c] at e
    exact xm_lx (hB_17 _ e hp) (trivial)
  · rw [if_neg c] at e
    refine xw_lld (show xm_Imp g Γ 6 (xi_lld 0 7) from xs_lload_n hΓ dX5_isIn_6) rfl ?_
    refine xw_lld (show xm_Imp g Γ 7 (xi_lld 4 9) from xs_lload hΓ dX5_isIn_7) rfl ?_
    refine xw_lcmp (show xm_Imp g Γ 9 (xi_lcmp 10) from xs_lcmp hΓ dX5_isIn_9) ?_
    refine xw_if (show xm_Imp g Γ 10 (xi_if (fun x => 0 < x) 17 13) from xs_if_gt hΓ dX5_isIn_10 (by decide)) (fun c => ?_) (fun c => ?_)
    · rw [if_pos c] at e
      exact xm_lx (hB_17 _ e hp) (trivial)
    · rw [if_neg c] at e
      refine xw_psh (v := (.int (1))) (show xm_Imp g Γ 13 (xi_psh (.int (1)) 14) from xs_iconst hΓ dX5_isIn_13 (by decide)) ?_
      refine xw_goto (show xm_Imp g Γ 14 (xi_goto 18) from xs_goto hΓ dX5_isIn_14 (by decide)) ?_
      exact xw_iret (show xm_Imp g Γ 18 (xi_iret .boolean _) from xs_ireturn hΓ rfl dX5_isIn_18) rfl (hP0 _ (xl_finV e hp))
theorem b_X5_isIn (p0 : Int64) (p2 : Int64) (p4 : Int64) : narrow .boolean (.int (F_X5_isIn p0 p2 p4)) = .int (F_X5_isIn p0 p2 p4) := by
  unfold F_X5_isIn B_X5_isIn_17
  (repeat' split) <;> first | with_reducible exact xb_n0 | with_reducible exact xb_n1
def F_X5_isQubit (p1 : Int32) (σ : xM_S) : Int32 :=
 (F_X5_isIn p1.toInt64 0 (((σ.2 1 0) - 1).toInt64))
set_option maxHeartbeats 4000000 in
theorem K_X5_isQubit {g : xm_G} (hG : xm_Gw g) {h0 : xm_H} {m : Nat} {ad : Nat → Nat} (hM : xM_ok h0 m ad) (hB : xk_B g h0) (p1 : Int32) (σ : xM_S) {o : Int32} (e : F_X5_isQubit p1 σ = o) {Q : xm_P} {X : xm_X} (hQ : Q (some (.int o)) (xMp h0 m ad σ)) : xm_Run g M_X5_isQubit 2 [.ref m, .int p1] (xMp h0 m ad σ) 0 0 Q X := by
  refine xm_Run.of pn_StringTableauModel (Nat.le_of_ble_eq_true rfl) (fun Γ hΓ => ?_)
  obtain ⟨P0, hP0, hp⟩ : ∃ P : Int32 → Prop, (∀ o, P o → Q (some (.int o)) (xMp h0 m ad σ)) ∧ P o := ⟨fun o => Q (some (.int o)) (xMp h0 m ad σ), fun _ h => h, hQ⟩
  clear hQ
  show xm_W g Γ 0 [some (.ref m), some (.int p1)] [] (xMp h0 m ad σ) 0 0
  unfold F_X5_isQubit at e
  refine xw_ild (show xm_Imp g Γ 0 (xi_ild 1 1) from xs_iload_n hΓ dX5_isQubit_0) rfl ?_
  refine xw_i2l (show xm_Imp g Γ 1 (xi_i2l 2) from xs_i2l hΓ dX5_isQubit_1) ?_
  refine xw_psh (v := (.long 0)) (show xm_Imp g Γ 2 (xi_psh (.long 0) 3) from xs_lconst hΓ dX5_isQubit_2 (by decide)) ?_
  refine xw_ald (show xm_Imp g Γ 3 (xi_ald 0 4) from xs_aload_n hΓ dX5_isQubit_3) rfl ?_
  refine xw_mga (k := 1) (show xm_Imp g Γ 4 (xi_get 4 1 7) from xs_get hG hΓ (ci := 4) (kf := 1) rfl (Nat.le_of_ble_eq_true rfl) q2851 dX5_isQubit_4) (fun _ => rfl) ?_
  refine xw_psh (v := (.int (0))) (show xm_Imp g Γ 7 (xi_psh (.int (0)) 8) from xs_iconst hΓ dX5_isQubit_7 (by decide)) ?_
  refine xw_mial (k := 1) (j := 0) (v := (σ.2 1 0)) (show xm_Imp g Γ 8 (xi_ial 9) from xs_ial hG hΓ dX5_isQubit_8) hM (by decide) rfl rfl rfl ?_
  refine xw_psh (v := (.int (1))) (show xm_Imp g Γ 9 (xi_psh (.int (1)) 10) from xs_iconst hΓ dX5_isQubit_9 (by decide)) ?_
  refine xw_ii (show xm_Imp g Γ 10 (xi_ii (fun x y => x - y) 11) from xs_isub hΓ dX5_isQubit_10) ?_
  refine xw_i2l (show xm_Imp g Γ 11 (xi_i2l 12) from xs_i2l hΓ dX5_isQubit_11) ?_
  refine xw_sv3 (show xm_Imp g Γ 12 (xi_inv g M_X5_isIn 1 3 15) from xs_invS hG hΓ k_X5_isIn rfl q2996 q2997 dX5_isQubit_12) rfl (fun Q X hQ => K_X5_isIn hG p1.toInt64 0 (((σ.2 1 0) - 1).toInt64) rfl hQ) ?_
  exact xw_iret (show xm_Imp g Γ 15 (xi_iret .boolean _) from xs_ireturn hΓ rfl dX5_isQubit_15) (b_X5_isIn p1.toInt64 0 (((σ.2 1 0) - 1).toInt64)) (hP0 _ (xl_finV e hp))
theorem b_X5_isQubit (p1 : Int32) (σ : xM_S) : narrow .boolean (.int (F_X5_isQubit p1 σ)) = .int (F_X5_isQubit p1 σ) := by
  unfold F_X5_isQubit
  (repeat' split) <;> first | with_reducible exact xb_n0 | with_reducible exact xb_n1 | with_reducible exact b_X5_isIn _ _ _
noncomputable def B_X5_may_10 (l1 : Int32) (s1 : Int32) (σ : xM_S) : Option (Int32 × xM_S) :=
 xo_b (xb_chk .boolean l1) (fun _ =>
 some ((l1, (xM_f σ 0 s1))))
noncomputable def F_X5_may (p1 : Int32) (p2 : Int32) (σ : xM_S) : Option (Int32 × xM_S) :=
 B_X5_may_10 p1 (if p1 = 0 then p2 else 0) σ
set_option maxHeartbeats 4000000 in
theorem K_X5_may {g : xm_G} (hG : xm_Gw g) {h0 : xm_H} {m : Nat} {ad : Nat → Nat} (hM : xM_ok h0 m ad) (hB : xk_B g h0) (p1 : Int32) (p2 : Int32) (σ : xM_S) {o : Int32 × xM_S} (e : F_X5_may p1 p2 σ = some o) {Q : xm_P} {X : xm_X} (hQ : Q (some (.int o.1)) (xMp h0 m ad o.2)) : xm_Run g M_X5_may 1 [.ref m, .int p1, .int p2] (xMp h0 m ad σ) 0 0 Q X := by
  refine xm_Run.of pn_StringTableauModel (Nat.le_of_ble_eq_true rfl) (fun Γ hΓ => ?_)
  obtain ⟨P0, hP0, hp⟩ : ∃ P : Int32 × xM_S → Prop, (∀ o, P o → Q (some (.int o.1)) (xMp h0 m ad o.2)) ∧ P o := ⟨fun o => Q (some (.int o.1)) (xMp h0 m ad o.2), fun _ h => h, hQ⟩
  clear hQ
  show xm_W g Γ 0 [some (.ref m), some (.int p1), some (.int p2)] [] (xMp h0 m ad σ) 0 0
  have hB_10 : ∀ (l1 : Int32) (s1 : Int32) (σ : xM_S) (o : Int32 × xM_S), B_X5_may_10 l1 s1 σ = some o → P0 o → xm_W g Γ 10 [none, some (.int l1), none] [.int s1, .ref m] (xMp h0 m ad σ) 0 0 := by
    intro l1 s1 σ o e hp
    unfold B_X5_may_10 at e
    refine xw_mpi (show xm_Imp g Γ 10 (xi_put 4 0 (.int) 13) from xs_put hG hΓ (ci := 4) (kf := 0) rfl (Nat.le_of_ble_eq_true rfl) rfl (by decide +kernel) q2850 dX5_may_10) (fun _ _ => rfl) ⟨rfl, rfl⟩ ?_
    refine xw_ild (show xm_Imp g Γ 13 (xi_ild 1 14) from xs_iload_n hΓ dX5_may_13) rfl ?_
    obtain ⟨_, e1, e⟩ := xo_b_s e
    exact xw_iret (show xm_Imp g Γ 14 (xi_iret .boolean _) from xs_ireturn hΓ rfl dX5_may_14) (xb_of e1) (hP0 _ (xl_fin e hp))
  unfold F_X5_may at e
  refine xw_ald (show xm_Imp g Γ 0 (xi_ald 0 1) from xs_aload_n hΓ dX5_may_0) rfl ?_
  refine xw_ild (show xm_Imp g Γ 1 (xi_ild 1 2) from xs_iload_n hΓ dX5_may_1) rfl ?_
  refine xw_if (show xm_Imp g Γ 2 (xi_if (fun x => x = 0) 9 5) from xs_if_eq hΓ dX5_may_2 (by decide)) (fun c => ?_) (fun c => ?_)
  · rw [if_pos c] at e
    refine xw_ild (show xm_Imp g Γ 9 (xi_ild 2 10) from xs_iload_n hΓ dX5_may_9) rfl ?_
    exact xm_lx (hB_10 _ _ _ _ e hp) (And.intro rfl (trivial))
  · rw [if_neg c] at e
    refine xw_psh (v := (.int (0))) (show xm_Imp g Γ 5 (xi_psh (.int (0)) 6) from xs_iconst hΓ dX5_may_5 (by decide)) ?_
    refine xw_goto (show xm_Imp g Γ 6 (xi_goto 10) from xs_goto hΓ dX5_may_6 (by decide)) ?_
    exact xm_lx (hB_10 _ _ _ _ e hp) (And.intro rfl (trivial))
noncomputable def D_X5_copies_2 (l0 : Nat) (l1 : Nat) (s : Int32 × xM_S) : Option ((Int32 × xM_S) ⊕ (xM_S)) :=
 (if 530 ≤ s.1 then
 xl_o (some s.2) else
 xo_b (xa_ix (xM_len l0) s.1) (fun j1 =>
 xo_b (xa_ix (xM_len l1) s.1) (fun j2 =>
 some (Sum.inl (s.1 + 1, (xM_a s.2 l1 j2 (s.2.2 l0 j1)))))))
noncomputable def L_X5_copies_2 (l0 : Nat) (l1 : Nat) (s : Int32 × xM_S) : Option (xM_S) := xl_loop (D_X5_copies_2 l0 l1) s
noncomputable def F_X5_copies (p0 : Nat) (p1 : Nat) (σ : xM_S) : Option (xM_S) :=
 L_X5_copies_2 p0 p1 (0, σ)
set_option maxHeartbeats 4000000 in
theorem K_X5_copies {g : xm_G} (hG : xm_Gw g) {h0 : xm_H} {m : Nat} {ad : Nat → Nat} (hM : xM_ok h0 m ad) (hB : xk_B g h0) (p0 : Nat) (p1 : Nat) (hk_p0 : p0 ∈ xM_ks ∧ xM_ty p0 = .int) (hk_p1 : p1 ∈ xM_ks ∧ xM_ty p1 = .int) (σ : xM_S) {o : xM_S} (e : F_X5_copies p0 p1 σ = some o) {Q : xm_P} {X : xm_X} (hQ : Q none (xMp h0 m ad o)) : xm_Run g M_X5_copies 1 [.ref (ad p0), .ref (ad p1)] (xMp h0 m ad σ) 0 0 Q X := by
  refine xm_Run.of pn_StringTableauModel (Nat.le_of_ble_eq_true rfl) (fun Γ hΓ => ?_)
  obtain ⟨P0, hP0, hp⟩ : ∃ P : xM_S → Prop, (∀ o, P o → Q none (xMp h0 m ad o)) ∧ P o := ⟨fun o => Q none (xMp h0 m ad o), fun _ h => h, hQ⟩
  clear hQ
  show xm_W g Γ 0 [some (.ref (ad p0)), some (.ref (ad p1)), none] [] (xMp h0 m ad σ) 0 0
  have hL_2 : ∀ (l0 : Nat) (l1 : Nat) (hk_l0 : l0 ∈ xM_ks ∧ xM_ty l0 = .int) (hk_l1 : l1 ∈ xM_ks ∧ xM_ty l1 = .int) (s : Int32 × xM_S) (o : xM_S), L_X5_copies_2 l0 l1 s = some o → P0 o → xm_W g Γ 2 [some (.ref (ad l0)), some (.ref (ad l1)), some (.int s.1)] [] (xMp h0 m ad s.2) 0 0 := by
    intro l0 l1 hk_l0 hk_l1
    refine xl_rule (WS := fun s : Int32 × xM_S => xm_W g Γ 2 [some (.ref (ad l0)), some (.ref (ad l1)), some (.int s.1)] [] (xMp h0 m ad s.2) 0 0) ?_
    intro s o e hp
    obtain ⟨P1, hP1, hp⟩ : ∃ P : (Int32 × xM_S) ⊕ (xM_S) → Prop, (∀ o, P o → xl_P (fun s : Int32 × xM_S => xm_W g Γ 2 [some (.ref (ad l0)), some (.ref (ad l1)), some (.int s.1)] [] (xMp h0 m ad s.2) 0 0) P0 o) ∧ P o := ⟨_, fun _ h => h, hp⟩
    unfold D_X5_copies_2 at e
    refine xw_ild (show xm_Imp g Γ 2 (xi_ild 2 3) from xs_iload_n hΓ dX5_copies_2) rfl ?_
    refine xw_psh (v := (.int (530))) (show xm_Imp g Γ 3 (xi_psh (.int (530)) 6) from xs_sipush hΓ dX5_copies_3 (by decide)) ?_
    refine xw_ic (show xm_Imp g Γ 6 (xi_ic (fun x y => y ≤ x) 21 9) from xs_icmp_ge hΓ dX5_copies_6 (by decide)) (fun c => ?_) (fun c => ?_)
    · rw [if_pos c] at e
      obtain ⟨_, e, hp⟩ := xl_o_s e (hP1 _ hp)
      exact xw_vret (show xm_Imp g Γ 21 (xi_vret _) from xs_return hΓ rfl dX5_copies_21) (hP0 _ (xl_fin e hp))
    · rw [if_neg c] at e
      refine xw_ald (show xm_Imp g Γ 9 (xi_ald 1 10) from xs_aload_n hΓ dX5_copies_9) rfl ?_
      refine xw_ild (show xm_Imp g Γ 10 (xi_ild 2 11) from xs_iload_n hΓ dX5_copies_10) rfl ?_
      refine xw_ald (show xm_Imp g Γ 11 (xi_ald 0 12) from xs_aload_n hΓ dX5_copies_11) rfl ?_
      refine xw_ild (show xm_Imp g Γ 12 (xi_ild 2 13) from xs_iload_n hΓ dX5_copies_12) rfl ?_
      obtain ⟨j1, e1, e⟩ := xo_b_s e
      refine xw_mial (k := l0) (v := (s.2.2 l0 j1)) (show xm_Imp g Γ 13 (xi_ial 14) from xs_ial hG hΓ dX5_copies_13) hM hk_l0.1 hk_l0.2 e1 rfl ?_
      obtain ⟨j2, e1, e⟩ := xo_b_s e
      refine xw_mias (k := l1) (show xm_Imp g Γ 14 (xi_ias 15) from xs_ias hG hΓ dX5_copies_14) hM hk_l1.1 hk_l1.2 e1 ?_
      refine xw_inc (v := (1)) (ls' := [some (.ref (ad l0)), some (.ref (ad l1)), some (.int (s.1 + 1))]) (show xm_Imp g Γ 15 (xi_inc 2 (1) 18) from xs_iinc hΓ dX5_copies_15 (by decide) (Nat.le_of_ble_eq_true rfl)) rfl rfl ?_
      refine xw_goto (show xm_Imp g Γ 18 (xi_goto 2) from xs_goto hΓ dX5_copies_18 (by decide)) ?_
      have hq := xl_P_inl (hP1 _ (xl_fin e hp)); exact hq
  unfold F_X5_copies at e
  refine xw_psh (v := (.int (0))) (show xm_Imp g Γ 0 (xi_psh (.int (0)) 1) from xs_iconst hΓ dX5_copies_0 (by decide)) ?_
  refine xw_ist (ls' := [some (.ref (ad p0)), some (.ref (ad p1)), some (.int 0)]) (show xm_Imp g Γ 1 (xi_ist 2 2) from xs_istore_n hΓ dX5_copies_1 (Nat.le_of_ble_eq_true rfl)) rfl ?_
  exact hL_2 _ _ hk_p0 hk_p1 _ _ e hp
noncomputable def F_X5_starts (σ : xM_S) : Option (xM_S) :=
 xo_b (F_X5_copies 1 2 σ) (fun v1 =>
 some v1)
set_option maxHeartbeats 4000000 in
theorem K_X5_starts {g : xm_G} (hG : xm_Gw g) {h0 : xm_H} {m : Nat} {ad : Nat → Nat} (hM : xM_ok h0 m ad) (hB : xk_B g h0)  (σ : xM_S) {o : xM_S} (e : F_X5_starts σ = some o) {Q : xm_P} {X : xm_X} (hQ : Q none (xMp h0 m ad o)) : xm_Run g M_X5_starts 2 [.ref m] (xMp h0 m ad σ) 0 0 Q X := by
  refine xm_Run.of pn_StringTableauModel (Nat.le_of_ble_eq_true rfl) (fun Γ hΓ => ?_)
  obtain ⟨P0, hP0, hp⟩ : ∃ P : xM_S → Prop, (∀ o, P o → Q none (xMp h0 m ad o)) ∧ P o := ⟨fun o => Q none (xMp h0 m ad o), fun _ h => h, hQ⟩
  clear hQ
  show xm_W g Γ 0 [some (.ref m)] [] (xMp h0 m ad σ) 0 0
  unfold F_X5_starts at e
  refine xw_ald (show xm_Imp g Γ 0 (xi_ald 0 1) from xs_aload_n hΓ dX5_starts_0) rfl ?_
  refine xw_mga (k := 1) (show xm_Imp g Γ 1 (xi_get 4 1 4) from xs_get hG hΓ (ci := 4) (kf := 1) rfl (Nat.le_of_ble_eq_true rfl) q2851 dX5_starts_1) (fun _ => rfl) ?_
  refine xw_ald (show xm_Imp g Γ 4 (xi_ald 0 5) from xs_aload_n hΓ dX5_starts_4) rfl ?_
  refine xw_mga (k := 2) (show xm_Imp g Γ 5 (xi_get 4 2 8) from xs_get hG hΓ (ci := 4) (kf := 2) rfl (Nat.le_of_ble_eq_true rfl) q2852 dX5_starts_5) (fun _ => rfl) ?_
  obtain ⟨v1, e1, e⟩ := xo_b_s e
  refine xw_su2 (show xm_Imp g Γ 8 (xi_inv g M_X5_copies 1 2 11) from xs_invS hG hΓ k_X5_copies rfl q3011 q3012 dX5_starts_8) rfl (fun Q X hQ => K_X5_copies hG hM hB 1 2 (by decide) (by decide) σ e1 hQ) ?_
  exact xw_vret (show xm_Imp g Γ 11 (xi_vret _) from xs_return hΓ rfl dX5_starts_11) (hP0 _ (xl_fin e hp))
def F_X5_takes (p1 : Int32) (p2 : Int32) (p3 : Int32) (σ : xM_S) : xM_S :=
 (xM_f (xM_f (xM_f σ 6 p1) 7 p2) 8 p3)
set_option maxHeartbeats 4000000 in
theorem K_X5_takes {g : xm_G} (hG : xm_Gw g) {h0 : xm_H} {m : Nat} {ad : Nat → Nat} (hM : xM_ok h0 m ad) (hB : xk_B g h0) (p1 : Int32) (p2 : Int32) (p3 : Int32) (σ : xM_S) {o : xM_S} (e : F_X5_takes p1 p2 p3 σ = o) {Q : xm_P} {X : xm_X} (hQ : Q none (xMp h0 m ad o)) : xm_Run g M_X5_takes 1 [.ref m, .int p1, .int p2, .int p3] (xMp h0 m ad σ) 0 0 Q X := by
  refine xm_Run.of pn_StringTableauModel (Nat.le_of_ble_eq_true rfl) (fun Γ hΓ => ?_)
  obtain ⟨P0, hP0, hp⟩ : ∃ P : xM_S → Prop, (∀ o, P o → Q none (xMp h0 m ad o)) ∧ P o := ⟨fun o => Q none (xMp h0 m ad o), fun _ h => h, hQ⟩
  clear hQ
  show xm_W g Γ 0 [some (.ref m), some (.int p1), some (.int p2), some (.int p3)] [] (xMp h0 m ad σ) 0 0
  unfold F_X5_takes at e
  refine xw_ald (show xm_Imp g Γ 0 (xi_ald 0 1) from xs_aload_n hΓ dX5_takes_0) rfl ?_
  refine xw_ild (show xm_Imp g Γ 1 (xi_ild 1 2) from xs_iload_n hΓ dX5_takes_1) rfl ?_
  refine xw_mpi (show xm_Imp g Γ 2 (xi_put 4 6 (.int) 5) from xs_put hG hΓ (ci := 4) (kf := 6) rfl (Nat.le_of_ble_eq_true rfl) rfl (by decide +kernel) q2856 dX5_takes_2) (fun _ _ => rfl) ⟨rfl, rfl⟩ ?_
  refine xw_ald (show xm_Imp g Γ 5 (xi_ald 0 6) from xs_aload_n hΓ dX5_takes_5) rfl ?_
  refine xw_ild (show xm_Imp g Γ 6 (xi_ild 2 7) from xs_iload_n hΓ dX5_takes_6) rfl ?_
  refine xw_mpi (show xm_Imp g Γ 7 (xi_put 4 7 (.int) 10) from xs_put hG hΓ (ci := 4) (kf := 7) rfl (Nat.le_of_ble_eq_true rfl) rfl (by decide +kernel) q2857 dX5_takes_7) (fun _ _ => rfl) ⟨rfl, rfl⟩ ?_
  refine xw_ald (show xm_Imp g Γ 10 (xi_ald 0 11) from xs_aload_n hΓ dX5_takes_10) rfl ?_
  refine xw_ild (show xm_Imp g Γ 11 (xi_ild 3 12) from xs_iload_n hΓ dX5_takes_11) rfl ?_
  refine xw_mpi (show xm_Imp g Γ 12 (xi_put 4 8 (.int) 15) from xs_put hG hΓ (ci := 4) (kf := 8) rfl (Nat.le_of_ble_eq_true rfl) rfl (by decide +kernel) q2858 dX5_takes_12) (fun _ _ => rfl) ⟨rfl, rfl⟩ ?_
  exact xw_vret (show xm_Imp g Γ 15 (xi_vret _) from xs_return hΓ rfl dX5_takes_15) (hP0 _ (xl_finV e hp))
noncomputable def F_X5_takesRow (p1 : Int32) (σ : xM_S) : Option (xM_S) :=
 xo_b (xa_ix 530 (6 + p1)) (fun j1 =>
 xo_b (xa_ix 530 (14 + p1)) (fun j2 =>
 xo_b (xa_ix 530 (22 + p1)) (fun j3 =>
 some (F_X5_takes (σ.2 1 j1) (σ.2 1 j2) (σ.2 1 j3) σ))))
set_option maxHeartbeats 4000000 in
theorem K_X5_takesRow {g : xm_G} (hG : xm_Gw g) {h0 : xm_H} {m : Nat} {ad : Nat → Nat} (hM : xM_ok h0 m ad) (hB : xk_B g h0) (p1 : Int32) (σ : xM_S) {o : xM_S} (e : F_X5_takesRow p1 σ = some o) {Q : xm_P} {X : xm_X} (hQ : Q none (xMp h0 m ad o)) : xm_Run g M_X5_takesRow 2 [.ref m, .int p1] (xMp h0 m ad σ) 0 0 Q X := by
  refine xm_Run.of pn_StringTableauModel (Nat.le_of_ble_eq_true rfl) (fun Γ hΓ => ?_)
  obtain ⟨P0, hP0, hp⟩ : ∃ P : xM_S → Prop, (∀ o, P o → Q none (xMp h0 m ad o)) ∧ P o := ⟨fun o => Q none (xMp h0 m ad o), fun _ h => h, hQ⟩
  clear hQ
  show xm_W g Γ 0 [some (.ref m), some (.int p1)] [] (xMp h0 m ad σ) 0 0
  unfold F_X5_takesRow at e
  refine xw_ald (show xm_Imp g Γ 0 (xi_ald 0 1) from xs_aload_n hΓ dX5_takesRow_0) rfl ?_
  refine xw_ald (show xm_Imp g Γ 1 (xi_ald 0 2) from xs_aload_n hΓ dX5_takesRow_1) rfl ?_
  refine xw_mga (k := 1) (show xm_Imp g Γ 2 (xi_get 4 1 5) from xs_get hG hΓ (ci := 4) (kf := 1) rfl (Nat.le_of_ble_eq_true rfl) q2851 dX5_takesRow_2) (fun _ => rfl) ?_
  refine xw_psh (v := (.int (6))) (show xm_Imp g Γ 5 (xi_psh (.int (6)) 7) from xs_bipush hΓ dX5_takesRow_5 (by decide)) ?_
  refine xw_ild (show xm_Imp g Γ 7 (xi_ild 1 8) from xs_iload_n hΓ dX5_takesRow_7) rfl ?_
  refine xw_ii (show xm_Imp g Γ 8 (xi_ii (fun x y => x + y) 9) from xs_iadd hΓ dX5_takesRow_8) ?_
  obtain ⟨j1, e1, e⟩ := xo_b_s e
  refine xw_mial (k := 1) (v := (σ.2 1 j1)) (show xm_Imp g Γ 9 (xi_ial 10) from xs_ial hG hΓ dX5_takesRow_9) hM (by decide) rfl e1 rfl ?_
  refine xw_ald (show xm_Imp g Γ 10 (xi_ald 0 11) from xs_aload_n hΓ dX5_takesRow_10) rfl ?_
  refine xw_mga (k := 1) (show xm_Imp g Γ 11 (xi_get 4 1 14) from xs_get hG hΓ (ci := 4) (kf := 1) rfl (Nat.le_of_ble_eq_true rfl) q2851 dX5_takesRow_11) (fun _ => rfl) ?_
  refine xw_psh (v := (.int (14))) (show xm_Imp g Γ 14 (xi_psh (.int (14)) 16) from xs_bipush hΓ dX5_takesRow_14 (by decide)) ?_
  refine xw_ild (show xm_Imp g Γ 16 (xi_ild 1 17) from xs_iload_n hΓ dX5_takesRow_16) rfl ?_
  refine xw_ii (show xm_Imp g Γ 17 (xi_ii (fun x y => x + y) 18) from xs_iadd hΓ dX5_takesRow_17) ?_
  obtain ⟨j2, e1, e⟩ := xo_b_s e
  refine xw_mial (k := 1) (v := (σ.2 1 j2)) (show xm_Imp g Γ 18 (xi_ial 19) from xs_ial hG hΓ dX5_takesRow_18) hM (by decide) rfl e1 rfl ?_
  refine xw_ald (show xm_Imp g Γ 19 (xi_ald 0 20) from xs_aload_n hΓ dX5_takesRow_19) rfl ?_
  refine xw_mga (k := 1) (show xm_Imp g Γ 20 (xi_get 4 1 23) from xs_get hG hΓ (ci := 4) (kf := 1) rfl (Nat.le_of_ble_eq_true rfl) q2851 dX5_takesRow_20) (fun _ => rfl) ?_
  refine xw_psh (v := (.int (22))) (show xm_Imp g Γ 23 (xi_psh (.int (22)) 25) from xs_bipush hΓ dX5_takesRow_23 (by decide)) ?_
  refine xw_ild (show xm_Imp g Γ 25 (xi_ild 1 26) from xs_iload_n hΓ dX5_takesRow_25) rfl ?_
  refine xw_ii (show xm_Imp g Γ 26 (xi_ii (fun x y => x + y) 27) from xs_iadd hΓ dX5_takesRow_26) ?_
  obtain ⟨j3, e1, e⟩ := xo_b_s e
  refine xw_mial (k := 1) (v := (σ.2 1 j3)) (show xm_Imp g Γ 27 (xi_ial 28) from xs_ial hG hΓ dX5_takesRow_27) hM (by decide) rfl e1 rfl ?_
  refine xw_mu3 (show xm_Imp g Γ 28 (xi_vir g 4 M_X5_takes 1 3 31) from xs_invV hG hΓ k_X5_takes rfl (ci := 4) rfl q3022 q3024 qs52 dX5_takesRow_28) rfl (fun Q X hQ => K_X5_takes hG hM hB (σ.2 1 j1) (σ.2 1 j2) (σ.2 1 j3) σ rfl hQ) ?_
  exact xw_vret (show xm_Imp g Γ 31 (xi_vret _) from xs_return hΓ rfl dX5_takesRow_31) (hP0 _ (xl_fin e hp))
def F_X5_has (p0 : Int32) (p1 : Int32) : Int32 :=
 (if ((p0 >>> (p1 &&& 31)) &&& 1) = 1 then
 1 else
 0)
set_option maxHeartbeats 4000000 in
theorem K_X5_has {g : xm_G} (hG : xm_Gw g) {h : xm_H} (p0 : Int32) (p1 : Int32) {o : Int32} (e : F_X5_has p0 p1 = o) {Q : xm_P} {X : xm_X} (hQ : Q (some (.int o)) h) : xm_Run g M_X5_has 1 [.int p0, .int p1] h 0 0 Q X := by
  refine xm_Run.of pn_StringTableauModel (Nat.le_of_ble_eq_true rfl) (fun Γ hΓ => ?_)
  obtain ⟨P0, hP0, hp⟩ : ∃ P : Int32 → Prop, (∀ o, P o → Q (some (.int o)) h) ∧ P o := ⟨fun o => Q (some (.int o)) h, fun _ h => h, hQ⟩
  clear hQ
  show xm_W g Γ 0 [some (.int p0), some (.int p1)] [] h 0 0
  unfold F_X5_has at e
  refine xw_ild (show xm_Imp g Γ 0 (xi_ild 0 1) from xs_iload_n hΓ dX5_has_0) rfl ?_
  refine xw_ild (show xm_Imp g Γ 1 (xi_ild 1 2) from xs_iload_n hΓ dX5_has_1) rfl ?_
  refine xw_ii (show xm_Imp g Γ 2 (xi_ii (fun x y => x >>> (y &&& 31)) 3) from xs_ishr hΓ dX5_has_2) ?_
  refine xw_psh (v := (.int (1))) (show xm_Imp g Γ 3 (xi_psh (.int (1)) 4) from xs_iconst hΓ dX5_has_3 (by decide)) ?_
  refine xw_ii (show xm_Imp g Γ 4 (xi_ii (fun x y => x &&& y) 5) from xs_iand hΓ dX5_has_4) ?_
  refine xw_psh (v := (.int (1))) (show xm_Imp g Γ 5 (xi_psh (.int (1)) 6) from xs_iconst hΓ dX5_has_5 (by decide)) ?_
  refine xw_ic (show xm_Imp g Γ 6 (xi_ic (fun x y => x = y) 9 13) from xs_icmp_ne hΓ dX5_has_6 (by decide)) (fun c => ?_) (fun c => ?_)
  · rw [if_pos c] at e
    refine xw_psh (v := (.int (1))) (show xm_Imp g Γ 9 (xi_psh (.int (1)) 10) from xs_iconst hΓ dX5_has_9 (by decide)) ?_
    refine xw_goto (show xm_Imp g Γ 10 (xi_goto 14) from xs_goto hΓ dX5_has_10 (by decide)) ?_
    exact xw_iret (show xm_Imp g Γ 14 (xi_iret .boolean _) from xs_ireturn hΓ rfl dX5_has_14) rfl (hP0 _ (xl_finV e hp))
  · rw [if_neg c] at e
    refine xw_psh (v := (.int (0))) (show xm_Imp g Γ 13 (xi_psh (.int (0)) 14) from xs_iconst hΓ dX5_has_13 (by decide)) ?_
    exact xw_iret (show xm_Imp g Γ 14 (xi_iret .boolean _) from xs_ireturn hΓ rfl dX5_has_14) rfl (hP0 _ (xl_finV e hp))
theorem b_X5_has (p0 : Int32) (p1 : Int32) : narrow .boolean (.int (F_X5_has p0 p1)) = .int (F_X5_has p0 p1) := by
  unfold F_X5_has
  (repeat' split) <;> first | with_reducible exact xb_n0 | with_reducible exact xb_n1
def F_X5_letterOf (p0 : Int32) (p1 : Int32) (p2 : Int32) : Int32 :=
 (if (F_X5_has p0 p2) = 0 then
 (if (F_X5_has p1 p2) = 0 then
 0 else
 3) else
 (if (F_X5_has p1 p2) = 0 then
 1 else
 2))
set_option maxHeartbeats 4000000 in
theorem K_X5_letterOf {g : xm_G} (hG : xm_Gw g) {h : xm_H} (p0 : Int32) (p1 : Int32) (p2 : Int32) {o : Int32} (e : F_X5_letterOf p0 p1 p2 = o) {Q : xm_P} {X : xm_X} (hQ : Q (some (.int o)) h) : xm_Run g M_X5_letterOf 2 [.int p0, .int p1, .int p2] h 0 0 Q X := by
  refine xm_Run.of pn_StringTableauModel (Nat.le_of_ble_eq_true rfl) (fun Γ hΓ => ?_)
  obtain ⟨P0, hP0, hp⟩ : ∃ P : Int32 → Prop, (∀ o, P o → Q (some (.int o)) h) ∧ P o := ⟨fun o => Q (some (.int o)) h, fun _ h => h, hQ⟩
  clear hQ
  show xm_W g Γ 0 [some (.int p0), some (.int p1), some (.int p2)] [] h 0 0
  unfold F_X5_letterOf at e
  refine xw_ild (show xm_Imp g Γ 0 (xi_ild 0 1) from xs_iload_n hΓ dX5_letterOf_0) rfl ?_
  refine xw_ild (show xm_Imp g Γ 1 (xi_ild 2 2) from xs_iload_n hΓ dX5_letterOf_1) rfl ?_
  refine xw_sv2 (show xm_Imp g Γ 2 (xi_inv g M_X5_has 1 2 5) from xs_invS hG hΓ k_X5_has rfl q3037 q3038 dX5_letterOf_2) rfl (fun Q X hQ => K_X5_has hG p0 p2 rfl hQ) ?_
  refine xw_if (show xm_Imp g Γ 5 (xi_if (fun x => x = 0) 24 8) from xs_if_eq hΓ dX5_letterOf_5 (by decide)) (fun c => ?_) (fun c => ?_)
  · rw [if_pos c] at e
    refine xw_ild (show xm_Imp g Γ 24 (xi_ild 1 25) from xs_iload_n hΓ dX5_letterOf_24) rfl ?_
    refine xw_ild (show xm_Imp g Γ 25 (xi_ild 2 26) from xs_iload_n hΓ dX5_letterOf_25) rfl ?_
    refine xw_sv2 (show xm_Imp g Γ 26 (xi_inv g M_X5_has 1 2 29) from xs_invS hG hΓ k_X5_has rfl q3037 q3038 dX5_letterOf_26) rfl (fun Q X hQ => K_X5_has hG p1 p2 rfl hQ) ?_
    refine xw_if (show xm_Imp g Γ 29 (xi_if (fun x => x = 0) 36 32) from xs_if_eq hΓ dX5_letterOf_29 (by decide)) (fun c => ?_) (fun c => ?_)
    · rw [if_pos c] at e
      refine xw_psh (v := (.int (0))) (show xm_Imp g Γ 36 (xi_psh (.int (0)) 37) from xs_iconst hΓ dX5_letterOf_36 (by decide)) ?_
      exact xw_iret (show xm_Imp g Γ 37 (xi_iret .int _) from xs_ireturn hΓ rfl dX5_letterOf_37) (xn_int _) (hP0 _ (xl_finV e hp))
    · rw [if_neg c] at e
      refine xw_psh (v := (.int (3))) (show xm_Imp g Γ 32 (xi_psh (.int (3)) 33) from xs_iconst hΓ dX5_letterOf_32 (by decide)) ?_
      refine xw_goto (show xm_Imp g Γ 33 (xi_goto 37) from xs_goto hΓ dX5_letterOf_33 (by decide)) ?_
      exact xw_iret (show xm_Imp g Γ 37 (xi_iret .int _) from xs_ireturn hΓ rfl dX5_letterOf_37) (xn_int _) (hP0 _ (xl_finV e hp))
  · rw [if_neg c] at e
    refine xw_ild (show xm_Imp g Γ 8 (xi_ild 1 9) from xs_iload_n hΓ dX5_letterOf_8) rfl ?_
    refine xw_ild (show xm_Imp g Γ 9 (xi_ild 2 10) from xs_iload_n hΓ dX5_letterOf_9) rfl ?_
    refine xw_sv2 (show xm_Imp g Γ 10 (xi_inv g M_X5_has 1 2 13) from xs_invS hG hΓ k_X5_has rfl q3037 q3038 dX5_letterOf_10) rfl (fun Q X hQ => K_X5_has hG p1 p2 rfl hQ) ?_
    refine xw_if (show xm_Imp g Γ 13 (xi_if (fun x => x = 0) 20 16) from xs_if_eq hΓ dX5_letterOf_13 (by decide)) (fun c => ?_) (fun c => ?_)
    · rw [if_pos c] at e
      refine xw_psh (v := (.int (1))) (show xm_Imp g Γ 20 (xi_psh (.int (1)) 21) from xs_iconst hΓ dX5_letterOf_20 (by decide)) ?_
      refine xw_goto (show xm_Imp g Γ 21 (xi_goto 37) from xs_goto hΓ dX5_letterOf_21 (by decide)) ?_
      exact xw_iret (show xm_Imp g Γ 37 (xi_iret .int _) from xs_ireturn hΓ rfl dX5_letterOf_37) (xn_int _) (hP0 _ (xl_finV e hp))
    · rw [if_neg c] at e
      refine xw_psh (v := (.int (2))) (show xm_Imp g Γ 16 (xi_psh (.int (2)) 17) from xs_iconst hΓ dX5_letterOf_16 (by decide)) ?_
      refine xw_goto (show xm_Imp g Γ 17 (xi_goto 37) from xs_goto hΓ dX5_letterOf_17 (by decide)) ?_
      exact xw_iret (show xm_Imp g Γ 37 (xi_iret .int _) from xs_ireturn hΓ rfl dX5_letterOf_37) (xn_int _) (hP0 _ (xl_finV e hp))
def B_X5_one_220 (l4 : Int32) (σ : xM_S) : xM_S :=
 (if l4 = 0 then
 σ else
 (xM_f σ 8 (1 - (σ.1 8))))
def B_X5_one_208 (l2 : Int32) (l4 : Int32) (σ : xM_S) : xM_S :=
 B_X5_one_220 l4 (xM_f σ 7 ((σ.1 7) ^^^ (1 <<< (l2 &&& 31))))
def B_X5_one_198 (l2 : Int32) (l3 : Int32) (l4 : Int32) (σ : xM_S) : xM_S :=
 (if l3 = 1 then
 B_X5_one_208 l2 l4 σ else
 (if l3 = 2 then
 B_X5_one_208 l2 l4 σ else
 B_X5_one_220 l4 σ))
def B_X5_one_188 (l1 : Int32) (l2 : Int32) (l3 : Int32) (l4 : Int32) (σ : xM_S) : xM_S :=
 (if l1 = 1 then
 B_X5_one_198 l2 l3 l4 σ else
 (if l1 = 2 then
 B_X5_one_198 l2 l3 l4 σ else
 B_X5_one_220 l4 σ))
def B_X5_one_164 (l1 : Int32) (l2 : Int32) (l3 : Int32) (l4 : Int32) (σ : xM_S) : xM_S :=
 B_X5_one_188 l1 l2 l3 l4 (xM_f (xM_f σ 6 ((σ.1 6) ^^^ (1 <<< (l2 &&& 31)))) 7 ((σ.1 7) ^^^ (1 <<< (l2 &&& 31))))
def B_X5_one_150 (l1 : Int32) (l2 : Int32) (l3 : Int32) (l4 : Int32) (σ : xM_S) : xM_S :=
 (if l1 = 0 then
 (if l3 = 1 then
 B_X5_one_164 l1 l2 l3 l4 σ else
 (if l3 = 3 then
 B_X5_one_164 l1 l2 l3 l4 σ else
 B_X5_one_188 l1 l2 l3 l4 σ)) else
 B_X5_one_188 l1 l2 l3 l4 σ)
def B_X5_one_58 (l1 : Int32) (l2 : Int32) (l3 : Int32) (s0 : Int32) (σ : xM_S) : xM_S :=
 B_X5_one_150 l1 l2 l3 s0 σ
def B_X5_one_73 (l1 : Int32) (l2 : Int32) (l3 : Int32) (s0 : Int32) (σ : xM_S) : xM_S :=
 B_X5_one_150 l1 l2 l3 s0 σ
def B_X5_one_88 (l1 : Int32) (l2 : Int32) (l3 : Int32) (s0 : Int32) (σ : xM_S) : xM_S :=
 B_X5_one_150 l1 l2 l3 s0 σ
def B_X5_one_108 (l1 : Int32) (l2 : Int32) (l3 : Int32) (s0 : Int32) (σ : xM_S) : xM_S :=
 B_X5_one_150 l1 l2 l3 s0 σ
def B_X5_one_128 (l1 : Int32) (l2 : Int32) (l3 : Int32) (s0 : Int32) (σ : xM_S) : xM_S :=
 B_X5_one_150 l1 l2 l3 s0 σ
def B_X5_one_148 (l1 : Int32) (l2 : Int32) (l3 : Int32) (s0 : Int32) (σ : xM_S) : xM_S :=
 B_X5_one_150 l1 l2 l3 s0 σ
def F_X5_one (p1 : Int32) (p2 : Int32) (σ : xM_S) : xM_S :=
 (if p1 = 0 then
 B_X5_one_58 p1 p2 (F_X5_letterOf (σ.1 6) (σ.1 7) p2) (if (F_X5_letterOf (σ.1 6) (σ.1 7) p2) = 2 then 1 else 0) σ else
 (if p1 = 1 then
 B_X5_one_73 p1 p2 (F_X5_letterOf (σ.1 6) (σ.1 7) p2) (if (F_X5_letterOf (σ.1 6) (σ.1 7) p2) = 2 then 1 else 0) σ else
 (if p1 = 2 then
 B_X5_one_88 p1 p2 (F_X5_letterOf (σ.1 6) (σ.1 7) p2) (if (F_X5_letterOf (σ.1 6) (σ.1 7) p2) = 1 then 1 else 0) σ else
 (if p1 = 3 then
 B_X5_one_108 p1 p2 (F_X5_letterOf (σ.1 6) (σ.1 7) p2) (if (F_X5_letterOf (σ.1 6) (σ.1 7) p2) = 2 then 1 else (if (F_X5_letterOf (σ.1 6) (σ.1 7) p2) = 3 then 1 else 0)) σ else
 (if p1 = 4 then
 B_X5_one_128 p1 p2 (F_X5_letterOf (σ.1 6) (σ.1 7) p2) (if (F_X5_letterOf (σ.1 6) (σ.1 7) p2) = 1 then 1 else (if (F_X5_letterOf (σ.1 6) (σ.1 7) p2) = 3 then 1 else 0)) σ else
 B_X5_one_148 p1 p2 (F_X5_letterOf (σ.1 6) (σ.1 7) p2) (if (F_X5_letterOf (σ.1 6) (σ.1 7) p2) = 1 then 1 else (if (F_X5_letterOf (σ.1 6) (σ.1 7) p2) = 2 then 1 else 0)) σ)))))
set_option maxHeartbeats 4000000 in
theorem K_X5_one {g : xm_G} (hG : xm_Gw g) {h0 : xm_H} {m : Nat} {ad : Nat → Nat} (hM : xM_ok h0 m ad) (hB : xk_B g h0) (p1 : Int32) (p2 : Int32) (σ : xM_S) {o : xM_S} (e : F_X5_one p1 p2 σ = o) {Q : xm_P} {X : xm_X} (hQ : Q none (xMp h0 m ad o)) : xm_Run g M_X5_one 3 [.ref m, .int p1, .int p2] (xMp h0 m ad σ) 0 0 Q X := by
  refine xm_Run.of pn_StringTableauModel (Nat.le_of_ble_eq_true rfl) (fun Γ hΓ => ?_)
  obtain ⟨P0, hP0, hp⟩ : ∃ P : xM_S → Prop, (∀ o, P o → Q none (xMp h0 m ad o)) ∧ P o := ⟨fun o => Q none (xMp h0 m ad o), fun _ h => h, hQ⟩
  clear hQ
  show xm_W g Γ 0 [some (.ref m), some (.int p1), some (.int p2), none, none] [] (xMp h0 m ad σ) 0 0
  have hB_220 : ∀ (l4 : Int32) (σ : xM_S) (o : xM_S), B_X5_one_220 l4 σ = o → P0 o → xm_W g Γ 220 [some (.ref m), none, none, none, some (.int l4)] [] (xMp h0 m ad σ) 0 0 := by
    intro l4 σ o e hp
    unfold B_X5_one_220 at e
    refine xw_ild (show xm_Imp g Γ 220 (xi_ild 4 222) from xs_iload hΓ dX5_one_220) rfl ?_
    refine xw_if (show xm_Imp g Γ 222 (xi_if (fun x => x = 0) 235 225) from xs_if_eq hΓ dX5_one_222 (by decide)) (fun c => ?_) (fun c => ?_)
    · rw [if_pos c] at e
      exact xw_vret (show xm_Imp g Γ 235 (xi_vret _) from xs_return hΓ rfl dX5_one_235) (hP0 _ (xl_finV e hp))
    · rw [if_neg c] at e
      refine xw_ald (show xm_Imp g Γ 225 (xi_ald 0 226) from xs_aload_n hΓ dX5_one_225) rfl ?_
      refine xw_psh (v := (.int (1))) (show xm_Imp g Γ 226 (xi_psh (.int (1)) 227) from xs_iconst hΓ dX5_one_226 (by decide)) ?_
      refine xw_ald (show xm_Imp g Γ 227 (xi_ald 0 228) from xs_aload_n hΓ dX5_one_227) rfl ?_
      refine xw_mgi (v := (σ.1 8)) (show xm_Imp g Γ 228 (xi_get 4 8 231) from xs_get hG hΓ (ci := 4) (kf := 8) rfl (Nat.le_of_ble_eq_true rfl) q2858 dX5_one_228) (fun _ => rfl) rfl ?_
      refine xw_ii (show xm_Imp g Γ 231 (xi_ii (fun x y => x - y) 232) from xs_isub hΓ dX5_one_231) ?_
      refine xw_mpi (show xm_Imp g Γ 232 (xi_put 4 8 (.int) 235) from xs_put hG hΓ (ci := 4) (kf := 8) rfl (Nat.le_of_ble_eq_true rfl) rfl (by decide +kernel) q2858 dX5_one_232) (fun _ _ => rfl) ⟨rfl, rfl⟩ ?_
      exact xw_vret (show xm_Imp g Γ 235 (xi_vret _) from xs_return hΓ rfl dX5_one_235) (hP0 _ (xl_finV e hp))
  have hB_208 : ∀ (l2 : Int32) (l4 : Int32) (σ : xM_S) (o : xM_S), B_X5_one_208 l2 l4 σ = o → P0 o → xm_W g Γ 208 [some (.ref m), none, some (.int l2), none, some (.int l4)] [] (xMp h0 m ad σ) 0 0 := by
    intro l2 l4 σ o e hp
    unfold B_X5_one_208 at e
    refine xw_ald (show xm_Imp g Γ 208 (xi_ald 0 209) from xs_aload_n hΓ dX5_one_208) rfl ?_
    refine xw_ald (show xm_Imp g Γ 209 (xi_ald 0 210) from xs_aload_n hΓ dX5_one_209) rfl ?_
    refine xw_mgi (v := (σ.1 7)) (show xm_Imp g Γ 210 (xi_get 4 7 213) from xs_get hG hΓ (ci := 4) (kf := 7) rfl (Nat.le_of_ble_eq_true rfl) q2857 dX5_one_210) (fun _ => rfl) rfl ?_
    refine xw_psh (v := (.int (1))) (show xm_Imp g Γ 213 (xi_psh (.int (1)) 214) from xs_iconst hΓ dX5_one_213 (by decide)) ?_
    refine xw_ild (show xm_Imp g Γ 214 (xi_ild 2 215) from xs_iload_n hΓ dX5_one_214) rfl ?_
    refine xw_ii (show xm_Imp g Γ 215 (xi_ii (fun x y => x <<< (y &&& 31)) 216) from xs_ishl hΓ dX5_one_215) ?_
    refine xw_ii (show xm_Imp g Γ 216 (xi_ii (fun x y => x ^^^ y) 217) from xs_ixor hΓ dX5_one_216) ?_
    refine xw_mpi (show xm_Imp g Γ 217 (xi_put 4 7 (.int) 220) from xs_put hG hΓ (ci := 4) (kf := 7) rfl (Nat.le_of_ble_eq_true rfl) rfl (by decide +kernel) q2857 dX5_one_217) (fun _ _ => rfl) ⟨rfl, rfl⟩ ?_
    exact xm_lx (hB_220 _ _ _ e hp) (And.intro rfl (And.intro rfl (trivial)))
  have hB_198 : ∀ (l2 : Int32) (l3 : Int32) (l4 : Int32) (σ : xM_S) (o : xM_S), B_X5_one_198 l2 l3 l4 σ = o → P0 o → xm_W g Γ 198 [some (.ref m), none, some (.int l2), some (.int l3), some (.int l4)] [] (xMp h0 m ad σ) 0 0 := by
    intro l2 l3 l4 σ o e hp
    unfold B_X5_one_198 at e
    refine xw_ild (show xm_Imp g Γ 198 (xi_ild 3 199) from xs_iload_n hΓ dX5_one_198) rfl ?_
    refine xw_psh (v := (.int (1))) (show xm_Imp g Γ 199 (xi_psh (.int (1)) 200) from xs_iconst hΓ dX5_one_199 (by decide)) ?_
    refine xw_ic (show xm_Imp g Γ 200 (xi_ic (fun x y => x = y) 208 203) from xs_icmp_eq hΓ dX5_one_200 (by decide)) (fun c => ?_) (fun c => ?_)
    · rw [if_pos c] at e
      exact xm_lx (hB_208 _ _ _ _ e hp) (And.intro rfl (And.intro rfl (And.intro rfl (trivial))))
    · rw [if_neg c] at e
      refine xw_ild (show xm_Imp g Γ 203 (xi_ild 3 204) from xs_iload_n hΓ dX5_one_203) rfl ?_
      refine xw_psh (v := (.int (2))) (show xm_Imp g Γ 204 (xi_psh (.int (2)) 205) from xs_iconst hΓ dX5_one_204 (by decide)) ?_
      refine xw_ic (show xm_Imp g Γ 205 (xi_ic (fun x y => x = y) 208 220) from xs_icmp_ne hΓ dX5_one_205 (by decide)) (fun c => ?_) (fun c => ?_)
      · rw [if_pos c] at e
        exact xm_lx (hB_208 _ _ _ _ e hp) (And.intro rfl (And.intro rfl (And.intro rfl (trivial))))
      · rw [if_neg c] at e
        exact xm_lx (hB_220 _ _ _ e hp) (And.intro rfl (And.intro rfl (trivial)))
  have hB_188 : ∀ (l1 : Int32) (l2 : Int32) (l3 : Int32) (l4 : Int32) (σ : xM_S) (o : xM_S), B_X5_one_188 l1 l2 l3 l4 σ = o → P0 o → xm_W g Γ 188 [some (.ref m), some (.int l1), some (.int l2), some (.int l3), some (.int l4)] [] (xMp h0 m ad σ) 0 0 := by
    intro l1 l2 l3 l4 σ o e hp
    unfold B_X5_one_188 at e
    refine xw_ild (show xm_Imp g Γ 188 (xi_ild 1 189) from xs_iload_n hΓ dX5_one_188) rfl ?_
    refine xw_psh (v := (.int (1))) (show xm_Imp g Γ 189 (xi_psh (.int (1)) 190) from xs_iconst hΓ dX5_one_189 (by decide)) ?_
    refine xw_ic (show xm_Imp g Γ 190 (xi_ic (fun x y => x = y) 198 193) from xs_icmp_eq hΓ dX5_one_190 (by decide)) (fun c => ?_) (fun c => ?_)
    · rw [if_pos c] at e
      exact xm_lx (hB_198 _ _ _ _ _ e hp) (And.intro rfl (And.intro rfl (And.intro rfl (And.intro rfl (trivial)))))
    · rw [if_neg c] at e
      refine xw_ild (show xm_Imp g Γ 193 (xi_ild 1 194) from xs_iload_n hΓ dX5_one_193) rfl ?_
      refine xw_psh (v := (.int (2))) (show xm_Imp g Γ 194 (xi_psh (.int (2)) 195) from xs_iconst hΓ dX5_one_194 (by decide)) ?_
      refine xw_ic (show xm_Imp g Γ 195 (xi_ic (fun x y => x = y) 198 220) from xs_icmp_ne hΓ dX5_one_195 (by decide)) (fun c => ?_) (fun c => ?_)
      · rw [if_pos c] at e
        exact xm_lx (hB_198 _ _ _ _ _ e hp) (And.intro rfl (And.intro rfl (And.intro rfl (And.intro rfl (trivial)))))
      · rw [if_neg c] at e
        exact xm_lx (hB_220 _ _ _ e hp) (And.intro rfl (And.intro rfl (trivial)))
  have hB_164 : ∀ (l1 : Int32) (l2 : Int32) (l3 : Int32) (l4 : Int32) (σ : xM_S) (o : xM_S), B_X5_one_164 l1 l2 l3 l4 σ = o → P0 o → xm_W g Γ 164 [some (.ref m), some (.int l1), some (.int l2), some (.int l3), some (.int l4)] [] (xMp h0 m ad σ) 0 0 := by
    intro l1 l2 l3 l4 σ o e hp
    unfold B_X5_one_164 at e
    refine xw_ald (show xm_Imp g Γ 164 (xi_ald 0 165) from xs_aload_n hΓ dX5_one_164) rfl ?_
    refine xw_ald (show xm_Imp g Γ 165 (xi_ald 0 166) from xs_aload_n hΓ dX5_one_165) rfl ?_
    refine xw_mgi (v := (σ.1 6)) (show xm_Imp g Γ 166 (xi_get 4 6 169) from xs_get hG hΓ (ci := 4) (kf := 6) rfl (Nat.le_of_ble_eq_true rfl) q2856 dX5_one_166) (fun _ => rfl) rfl ?_
    refine xw_psh (v := (.int (1))) (show xm_Imp g Γ 169 (xi_psh (.int (1)) 170) from xs_iconst hΓ dX5_one_169 (by decide)) ?_
    refine xw_ild (show xm_Imp g Γ 170 (xi_ild 2 171) from xs_iload_n hΓ dX5_one_170) rfl ?_
    refine xw_ii (show xm_Imp g Γ 171 (xi_ii (fun x y => x <<< (y &&& 31)) 172) from xs_ishl hΓ dX5_one_171) ?_
    refine xw_ii (show xm_Imp g Γ 172 (xi_ii (fun x y => x ^^^ y) 173) from xs_ixor hΓ dX5_one_172) ?_
    refine xw_mpi (show xm_Imp g Γ 173 (xi_put 4 6 (.int) 176) from xs_put hG hΓ (ci := 4) (kf := 6) rfl (Nat.le_of_ble_eq_true rfl) rfl (by decide +kernel) q2856 dX5_one_173) (fun _ _ => rfl) ⟨rfl, rfl⟩ ?_
    refine xw_ald (show xm_Imp g Γ 176 (xi_ald 0 177) from xs_aload_n hΓ dX5_one_176) rfl ?_
    refine xw_ald (show xm_Imp g Γ 177 (xi_ald 0 178) from xs_aload_n hΓ dX5_one_177) rfl ?_
    refine xw_mgi (v := (σ.1 7)) (show xm_Imp g Γ 178 (xi_get 4 7 181) from xs_get hG hΓ (ci := 4) (kf := 7) rfl (Nat.le_of_ble_eq_true rfl) q2857 dX5_one_178) (fun _ => rfl) rfl ?_
    refine xw_psh (v := (.int (1))) (show xm_Imp g Γ 181 (xi_psh (.int (1)) 182) from xs_iconst hΓ dX5_one_181 (by decide)) ?_
    refine xw_ild (show xm_Imp g Γ 182 (xi_ild 2 183) from xs_iload_n hΓ dX5_one_182) rfl ?_
    refine xw_ii (show xm_Imp g Γ 183 (xi_ii (fun x y => x <<< (y &&& 31)) 184) from xs_ishl hΓ dX5_one_183) ?_
    refine xw_ii (show xm_Imp g Γ 184 (xi_ii (fun x y => x ^^^ y) 185) from xs_ixor hΓ dX5_one_184) ?_
    refine xw_mpi (show xm_Imp g Γ 185 (xi_put 4 7 (.int) 188) from xs_put hG hΓ (ci := 4) (kf := 7) rfl (Nat.le_of_ble_eq_true rfl) rfl (by decide +kernel) q2857 dX5_one_185) (fun _ _ => rfl) ⟨rfl, rfl⟩ ?_
    exact hB_188 _ _ _ _ _ _ e hp
  have hB_150 : ∀ (l1 : Int32) (l2 : Int32) (l3 : Int32) (l4 : Int32) (σ : xM_S) (o : xM_S), B_X5_one_150 l1 l2 l3 l4 σ = o → P0 o → xm_W g Γ 150 [some (.ref m), some (.int l1), some (.int l2), some (.int l3), some (.int l4)] [] (xMp h0 m ad σ) 0 0 := by
    intro l1 l2 l3 l4 σ o e hp
    unfold B_X5_one_150 at e
    refine xw_ild (show xm_Imp g Γ 150 (xi_ild 1 151) from xs_iload_n hΓ dX5_one_150) rfl ?_
    refine xw_if (show xm_Imp g Γ 151 (xi_if (fun x => x = 0) 154 188) from xs_if_ne hΓ dX5_one_151 (by decide)) (fun c => ?_) (fun c => ?_)
    · rw [if_pos c] at e
      refine xw_ild (show xm_Imp g Γ 154 (xi_ild 3 155) from xs_iload_n hΓ dX5_one_154) rfl ?_
      refine xw_psh (v := (.int (1))) (show xm_Imp g Γ 155 (xi_psh (.int (1)) 156) from xs_iconst hΓ dX5_one_155 (by decide)) ?_
      refine xw_ic (show xm_Imp g Γ 156 (xi_ic (fun x y => x = y) 164 159) from xs_icmp_eq hΓ dX5_one_156 (by decide)) (fun c => ?_) (fun c => ?_)
      · rw [if_pos c] at e
        exact hB_164 _ _ _ _ _ _ e hp
      · rw [if_neg c] at e
        refine xw_ild (show xm_Imp g Γ 159 (xi_ild 3 160) from xs_iload_n hΓ dX5_one_159) rfl ?_
        refine xw_psh (v := (.int (3))) (show xm_Imp g Γ 160 (xi_psh (.int (3)) 161) from xs_iconst hΓ dX5_one_160 (by decide)) ?_
        refine xw_ic (show xm_Imp g Γ 161 (xi_ic (fun x y => x = y) 164 188) from xs_icmp_ne hΓ dX5_one_161 (by decide)) (fun c => ?_) (fun c => ?_)
        · rw [if_pos c] at e
          exact hB_164 _ _ _ _ _ _ e hp
        · rw [if_neg c] at e
          exact hB_188 _ _ _ _ _ _ e hp
    · rw [if_neg c] at e
      exact hB_188 _ _ _ _ _ _ e hp
  have hB_58 : ∀ (l1 : Int32) (l2 : Int32) (l3 : Int32) (s0 : Int32) (σ : xM_S) (o : xM_S), B_X5_one_58 l1 l2 l3 s0 σ = o → P0 o → xm_W g Γ 58 [some (.ref m), some (.int l1), some (.int l2), some (.int l3), none] [.int s0] (xMp h0 m ad σ) 0 0 := by
    intro l1 l2 l3 s0 σ o e hp
    unfold B_X5_one_58 at e
    refine xw_ist (ls' := [some (.ref m), some (.int l1), some (.int l2), some (.int l3), some (.int s0)]) (show xm_Imp g Γ 58 (xi_ist 4 60) from xs_istore hΓ dX5_one_58 (Nat.le_of_ble_eq_true rfl)) rfl ?_
    refine xw_goto (show xm_Imp g Γ 60 (xi_goto 150) from xs_goto hΓ dX5_one_60 (by decide)) ?_
    exact hB_150 _ _ _ _ _ _ e hp
  have hB_73 : ∀ (l1 : Int32) (l2 : Int32) (l3 : Int32) (s0 : Int32) (σ : xM_S) (o : xM_S), B_X5_one_73 l1 l2 l3 s0 σ = o → P0 o → xm_W g Γ 73 [some (.ref m), some (.int l1), some (.int l2), some (.int l3), none] [.int s0] (xMp h0 m ad σ) 0 0 := by
    intro l1 l2 l3 s0 σ o e hp
    unfold B_X5_one_73 at e
    refine xw_ist (ls' := [some (.ref m), some (.int l1), some (.int l2), some (.int l3), some (.int s0)]) (show xm_Imp g Γ 73 (xi_ist 4 75) from xs_istore hΓ dX5_one_73 (Nat.le_of_ble_eq_true rfl)) rfl ?_
    refine xw_goto (show xm_Imp g Γ 75 (xi_goto 150) from xs_goto hΓ dX5_one_75 (by decide)) ?_
    exact hB_150 _ _ _ _ _ _ e hp
  have hB_88 : ∀ (l1 : Int32) (l2 : Int32) (l3 : Int32) (s0 : Int32) (σ : xM_S) (o : xM_S), B_X5_one_88 l1 l2 l3 s0 σ = o → P0 o → xm_W g Γ 88 [some (.ref m), some (.int l1), some (.int l2), some (.int l3), none] [.int s0] (xMp h0 m ad σ) 0 0 := by
    intro l1 l2 l3 s0 σ o e hp
    unfold B_X5_one_88 at e
    refine xw_ist (ls' := [some (.ref m), some (.int l1), some (.int l2), some (.int l3), some (.int s0)]) (show xm_Imp g Γ 88 (xi_ist 4 90) from xs_istore hΓ dX5_one_88 (Nat.le_of_ble_eq_true rfl)) rfl ?_
    refine xw_goto (show xm_Imp g Γ 90 (xi_goto 150) from xs_goto hΓ dX5_one_90 (by decide)) ?_
    exact hB_150 _ _ _ _ _ _ e hp
  have hB_108 : ∀ (l1 : Int32) (l2 : Int32) (l3 : Int32) (s0 : Int32) (σ : xM_S) (o : xM_S), B_X5_one_108 l1 l2 l3 s0 σ = o → P0 o → xm_W g Γ 108 [some (.ref m), some (.int l1), some (.int l2), some (.int l3), none] [.int s0] (xMp h0 m ad σ) 0 0 := by
    intro l1 l2 l3 s0 σ o e hp
    unfold B_X5_one_108 at e
    refine xw_ist (ls' := [some (.ref m), some (.int l1), some (.int l2), some (.int l3), some (.int s0)]) (show xm_Imp g Γ 108 (xi_ist 4 110) from xs_istore hΓ dX5_one_108 (Nat.le_of_ble_eq_true rfl)) rfl ?_
    refine xw_goto (show xm_Imp g Γ 110 (xi_goto 150) from xs_goto hΓ dX5_one_110 (by decide)) ?_
    exact hB_150 _ _ _ _ _ _ e hp
  have hB_128 : ∀ (l1 : Int32) (l2 : Int32) (l3 : Int32) (s0 : Int32) (σ : xM_S) (o : xM_S), B_X5_one_128 l1 l2 l3 s0 σ = o → P0 o → xm_W g Γ 128 [some (.ref m), some (.int l1), some (.int l2), some (.int l3), none] [.int s0] (xMp h0 m ad σ) 0 0 := by
    intro l1 l2 l3 s0 σ o e hp
    unfold B_X5_one_128 at e
    refine xw_ist (ls' := [some (.ref m), some (.int l1), some (.int l2), some (.int l3), some (.int s0)]) (show xm_Imp g Γ 128 (xi_ist 4 130) from xs_istore hΓ dX5_one_128 (Nat.le_of_ble_eq_true rfl)) rfl ?_
    refine xw_goto (show xm_Imp g Γ 130 (xi_goto 150) from xs_goto hΓ dX5_one_130 (by decide)) ?_
    exact hB_150 _ _ _ _ _ _ e hp
  have hB_148 : ∀ (l1 : Int32) (l2 : Int32) (l3 : Int32) (s0 : Int32) (σ : xM_S) (o : xM_S), B_X5_one_148 l1 l2 l3 s0 σ = o → P0 o → xm_W g Γ 148 [some (.ref m), some (.int l1), some (.int l2), some (.int l3), none] [.int s0] (xMp h0 m ad σ) 0 0 := by
    intro l1 l2 l3 s0 σ o e hp
    unfold B_X5_one_148 at e
    refine xw_ist (ls' := [some (.ref m), some (.int l1), some (.int l2), some (.int l3), some (.int s0)]) (show xm_Imp g Γ 148 (xi_ist 4 150) from xs_istore hΓ dX5_one_148 (Nat.le_of_ble_eq_true rfl)) rfl ?_
    exact hB_150 _ _ _ _ _ _ e hp
  unfold F_X5_one at e
  refine xw_ald (show xm_Imp g Γ 0 (xi_ald 0 1) from xs_aload_n hΓ dX5_one_0) rfl ?_
  refine xw_mgi (v := (σ.1 6)) (show xm_Imp g Γ 1 (xi_get 4 6 4) from xs_get hG hΓ (ci := 4) (kf := 6) rfl (Nat.le_of_ble_eq_true rfl) q2856 dX5_one_1) (fun _ => rfl) rfl ?_
  refine xw_ald (show xm_Imp g Γ 4 (xi_ald 0 5) from xs_aload_n hΓ dX5_one_4) rfl ?_
  refine xw_mgi (v := (σ.1 7)) (show xm_Imp g Γ 5 (xi_get 4 7 8) from xs_get hG hΓ (ci := 4) (kf := 7) rfl (Nat.le_of_ble_eq_true rfl) q2857 dX5_one_5) (fun _ => rfl) rfl ?_
  refine xw_ild (show xm_Imp g Γ 8 (xi_ild 2 9) from xs_iload_n hΓ dX5_one_8) rfl ?_
  refine xw_sv3 (show xm_Imp g Γ 9 (xi_inv g M_X5_letterOf 2 3 12) from xs_invS hG hΓ k_X5_letterOf rfl q3034 q3035 dX5_one_9) rfl (fun Q X hQ => K_X5_letterOf hG (σ.1 6) (σ.1 7) p2 rfl hQ) ?_
  refine xw_ist (ls' := [some (.ref m), some (.int p1), some (.int p2), some (.int (F_X5_letterOf (σ.1 6) (σ.1 7) p2)), none]) (show xm_Imp g Γ 12 (xi_ist 3 13) from xs_istore_n hΓ dX5_one_12 (Nat.le_of_ble_eq_true rfl)) rfl ?_
  refine xw_ild (show xm_Imp g Γ 13 (xi_ild 1 14) from xs_iload_n hΓ dX5_one_13) rfl ?_
  by_cases c0 : p1 = 0
  · rw [if_pos c0] at e
    refine xw_tsi (show xm_Imp g Γ 14 (xi_tsw 0 4 [48, 63, 78, 93, 113] 133) from xs_tsw hΓ dX5_one_14 (by decide) (by decide) (by decide)) (i := 0) rfl (by rw [c0]; decide) (by decide) ?_
    refine xw_ild (show xm_Imp g Γ 48 (xi_ild 3 49) from xs_iload_n hΓ dX5_one_48) rfl ?_
    refine xw_psh (v := (.int (2))) (show xm_Imp g Γ 49 (xi_psh (.int (2)) 50) from xs_iconst hΓ dX5_one_49 (by decide)) ?_
    refine xw_ic (show xm_Imp g Γ 50 (xi_ic (fun x y => x = y) 53 57) from xs_icmp_ne hΓ dX5_one_50 (by decide)) (fun c => ?_) (fun c => ?_)
    · rw [if_pos c] at e
      refine xw_psh (v := (.int (1))) (show xm_Imp g Γ 53 (xi_psh (.int (1)) 54) from xs_iconst hΓ dX5_one_53 (by decide)) ?_
      refine xw_goto (show xm_Imp g Γ 54 (xi_goto 58) from xs_goto hΓ dX5_one_54 (by decide)) ?_
      exact hB_58 _ _ _ _ _ _ e hp
    · rw [if_neg c] at e
      refine xw_psh (v := (.int (0))) (show xm_Imp g Γ 57 (xi_psh (.int (0)) 58) from xs_iconst hΓ dX5_one_57 (by decide)) ?_
      exact hB_58 _ _ _ _ _ _ e hp
  rw [if_neg c0] at e
  by_cases c1 : p1 = 1
  · rw [if_pos c1] at e
    refine xw_tsi (show xm_Imp g Γ 14 (xi_tsw 0 4 [48, 63, 78, 93, 113] 133) from xs_tsw hΓ dX5_one_14 (by decide) (by decide) (by decide)) (i := 1) rfl (by rw [c1]; decide) (by decide) ?_
    refine xw_ild (show xm_Imp g Γ 63 (xi_ild 3 64) from xs_iload_n hΓ dX5_one_63) rfl ?_
    refine xw_psh (v := (.int (2))) (show xm_Imp g Γ 64 (xi_psh (.int (2)) 65) from xs_iconst hΓ dX5_one_64 (by decide)) ?_
    refine xw_ic (show xm_Imp g Γ 65 (xi_ic (fun x y => x = y) 68 72) from xs_icmp_ne hΓ dX5_one_65 (by decide)) (fun c => ?_) (fun c => ?_)
    · rw [if_pos c] at e
      refine xw_psh (v := (.int (1))) (show xm_Imp g Γ 68 (xi_psh (.int (1)) 69) from xs_iconst hΓ dX5_one_68 (by decide)) ?_
      refine xw_goto (show xm_Imp g Γ 69 (xi_goto 73) from xs_goto hΓ dX5_one_69 (by decide)) ?_
      exact hB_73 _ _ _ _ _ _ e hp
    · rw [if_neg c] at e
      refine xw_psh (v := (.int (0))) (show xm_Imp g Γ 72 (xi_psh (.int (0)) 73) from xs_iconst hΓ dX5_one_72 (by decide)) ?_
      exact hB_73 _ _ _ _ _ _ e hp
  rw [if_neg c1] at e
  by_cases c2 : p1 = 2
  · rw [if_pos c2] at e
    refine xw_tsi (show xm_Imp g Γ 14 (xi_tsw 0 4 [48, 63, 78, 93, 113] 133) from xs_tsw hΓ dX5_one_14 (by decide) (by decide) (by decide)) (i := 2) rfl (by rw [c2]; decide) (by decide) ?_
    refine xw_ild (show xm_Imp g Γ 78 (xi_ild 3 79) from xs_iload_n hΓ dX5_one_78) rfl ?_
    refine xw_psh (v := (.int (1))) (show xm_Imp g Γ 79 (xi_psh (.int (1)) 80) from xs_iconst hΓ dX5_one_79 (by decide)) ?_
    refine xw_ic (show xm_Imp g Γ 80 (xi_ic (fun x y => x = y) 83 87) from xs_icmp_ne hΓ dX5_one_80 (by decide)) (fun c => ?_) (fun c => ?_)
    · rw [if_pos c] at e
      refine xw_psh (v := (.int (1))) (show xm_Imp g Γ 83 (xi_psh (.int (1)) 84) from xs_iconst hΓ dX5_one_83 (by decide)) ?_
      refine xw_goto (show xm_Imp g Γ 84 (xi_goto 88) from xs_goto hΓ dX5_one_84 (by decide)) ?_
      exact hB_88 _ _ _ _ _ _ e hp
    · rw [if_neg c] at e
      refine xw_psh (v := (.int (0))) (show xm_Imp g Γ 87 (xi_psh (.int (0)) 88) from xs_iconst hΓ dX5_one_87 (by decide)) ?_
      exact hB_88 _ _ _ _ _ _ e hp
  rw [if_neg c2] at e
  by_cases c3 : p1 = 3
  · rw [if_pos c3] at e
    refine xw_tsi (show xm_Imp g Γ 14 (xi_tsw 0 4 [48, 63, 78, 93, 113] 133) from xs_tsw hΓ dX5_one_14 (by decide) (by decide) (by decide)) (i := 3) rfl (by rw [c3]; decide) (by decide) ?_
    refine xw_ild (show xm_Imp g Γ 93 (xi_ild 3 94) from xs_iload_n hΓ dX5_one_93) rfl ?_
    refine xw_psh (v := (.int (2))) (show xm_Imp g Γ 94 (xi_psh (.int (2)) 95) from xs_iconst hΓ dX5_one_94 (by decide)) ?_
    refine xw_ic (show xm_Imp g Γ 95 (xi_ic (fun x y => x = y) 103 98) from xs_icmp_eq hΓ dX5_one_95 (by decide)) (fun c => ?_) (fun c => ?_)
    · rw [if_pos c] at e
      refine xw_psh (v := (.int (1))) (show xm_Imp g Γ 103 (xi_psh (.int (1)) 104) from xs_iconst hΓ dX5_one_103 (by decide)) ?_
      refine xw_goto (show xm_Imp g Γ 104 (xi_goto 108) from xs_goto hΓ dX5_one_104 (by decide)) ?_
      exact hB_108 _ _ _ _ _ _ e hp
    · rw [if_neg c] at e
      refine xw_ild (show xm_Imp g Γ 98 (xi_ild 3 99) from xs_iload_n hΓ dX5_one_98) rfl ?_
      refine xw_psh (v := (.int (3))) (show xm_Imp g Γ 99 (xi_psh (.int (3)) 100) from xs_iconst hΓ dX5_one_99 (by decide)) ?_
      refine xw_ic (show xm_Imp g Γ 100 (xi_ic (fun x y => x = y) 103 107) from xs_icmp_ne hΓ dX5_one_100 (by decide)) (fun c => ?_) (fun c => ?_)
      · rw [if_pos c] at e
        refine xw_psh (v := (.int (1))) (show xm_Imp g Γ 103 (xi_psh (.int (1)) 104) from xs_iconst hΓ dX5_one_103 (by decide)) ?_
        refine xw_goto (show xm_Imp g Γ 104 (xi_goto 108) from xs_goto hΓ dX5_one_104 (by decide)) ?_
        exact hB_108 _ _ _ _ _ _ e hp
      · rw [if_neg c] at e
        refine xw_psh (v := (.int (0))) (show xm_Imp g Γ 107 (xi_psh (.int (0)) 108) from xs_iconst hΓ dX5_one_107 (by decide)) ?_
        exact hB_108 _ _ _ _ _ _ e hp
  rw [if_neg c3] at e
  by_cases c4 : p1 = 4
  · rw [if_pos c4] at e
    refine xw_tsi (show xm_Imp g Γ 14 (xi_tsw 0 4 [48, 63, 78, 93, 113] 133) from xs_tsw hΓ dX5_one_14 (by decide) (by decide) (by decide)) (i := 4) rfl (by rw [c4]; decide) (by decide) ?_
    refine xw_ild (show xm_Imp g Γ 113 (xi_ild 3 114) from xs_iload_n hΓ dX5_one_113) rfl ?_
    refine xw_psh (v := (.int (1))) (show xm_Imp g Γ 114 (xi_psh (.int (1)) 115) from xs_iconst hΓ dX5_one_114 (by decide)) ?_
    refine xw_ic (show xm_Imp g Γ 115 (xi_ic (fun x y => x = y) 123 118) from xs_icmp_eq hΓ dX5_one_115 (by decide)) (fun c => ?_) (fun c => ?_)
    · rw [if_pos c] at e
      refine xw_psh (v := (.int (1))) (show xm_Imp g Γ 123 (xi_psh (.int (1)) 124) from xs_iconst hΓ dX5_one_123 (by decide)) ?_
      refine xw_goto (show xm_Imp g Γ 124 (xi_goto 128) from xs_goto hΓ dX5_one_124 (by decide)) ?_
      exact hB_128 _ _ _ _ _ _ e hp
    · rw [if_neg c] at e
      refine xw_ild (show xm_Imp g Γ 118 (xi_ild 3 119) from xs_iload_n hΓ dX5_one_118) rfl ?_
      refine xw_psh (v := (.int (3))) (show xm_Imp g Γ 119 (xi_psh (.int (3)) 120) from xs_iconst hΓ dX5_one_119 (by decide)) ?_
      refine xw_ic (show xm_Imp g Γ 120 (xi_ic (fun x y => x = y) 123 127) from xs_icmp_ne hΓ dX5_one_120 (by decide)) (fun c => ?_) (fun c => ?_)
      · rw [if_pos c] at e
        refine xw_psh (v := (.int (1))) (show xm_Imp g Γ 123 (xi_psh (.int (1)) 124) from xs_iconst hΓ dX5_one_123 (by decide)) ?_
        refine xw_goto (show xm_Imp g Γ 124 (xi_goto 128) from xs_goto hΓ dX5_one_124 (by decide)) ?_
        exact hB_128 _ _ _ _ _ _ e hp
      · rw [if_neg c] at e
        refine xw_psh (v := (.int (0))) (show xm_Imp g Γ 127 (xi_psh (.int (0)) 128) from xs_iconst hΓ dX5_one_127 (by decide)) ?_
        exact hB_128 _ _ _ _ _ _ e hp
  rw [if_neg c4] at e
  refine xw_tsd (show xm_Imp g Γ 14 (xi_tsw 0 4 [48, 63, 78, 93, 113] 133) from xs_tsw hΓ dX5_one_14 (by decide) (by decide) (by decide)) (xm_tsd p1 [(0 : Int32), (1 : Int32), (2 : Int32), (3 : Int32), (4 : Int32)] (by decide) (And.intro c0 (And.intro c1 (And.intro c2 (And.intro c3 (And.intro c4 (trivial))))))) (by decide) ?_
  refine xw_ild (show xm_Imp g Γ 133 (xi_ild 3 134) from xs_iload_n hΓ dX5_one_133) rfl ?_
  refine xw_psh (v := (.int (1))) (show xm_Imp g Γ 134 (xi_psh (.int (1)) 135) from xs_iconst hΓ dX5_one_134 (by decide)) ?_
  refine xw_ic (show xm_Imp g Γ 135 (xi_ic (fun x y => x = y) 143 138) from xs_icmp_eq hΓ dX5_one_135 (by decide)) (fun c => ?_) (fun c => ?_)
  · rw [if_pos c] at e
    refine xw_psh (v := (.int (1))) (show xm_Imp g Γ 143 (xi_psh (.int (1)) 144) from xs_iconst hΓ dX5_one_143 (by decide)) ?_
    refine xw_goto (show xm_Imp g Γ 144 (xi_goto 148) from xs_goto hΓ dX5_one_144 (by decide)) ?_
    exact hB_148 _ _ _ _ _ _ e hp
  · rw [if_neg c] at e
    refine xw_ild (show xm_Imp g Γ 138 (xi_ild 3 139) from xs_iload_n hΓ dX5_one_138) rfl ?_
    refine xw_psh (v := (.int (2))) (show xm_Imp g Γ 139 (xi_psh (.int (2)) 140) from xs_iconst hΓ dX5_one_139 (by decide)) ?_
    refine xw_ic (show xm_Imp g Γ 140 (xi_ic (fun x y => x = y) 143 147) from xs_icmp_ne hΓ dX5_one_140 (by decide)) (fun c => ?_) (fun c => ?_)
    · rw [if_pos c] at e
      refine xw_psh (v := (.int (1))) (show xm_Imp g Γ 143 (xi_psh (.int (1)) 144) from xs_iconst hΓ dX5_one_143 (by decide)) ?_
      refine xw_goto (show xm_Imp g Γ 144 (xi_goto 148) from xs_goto hΓ dX5_one_144 (by decide)) ?_
      exact hB_148 _ _ _ _ _ _ e hp
    · rw [if_neg c] at e
      refine xw_psh (v := (.int (0))) (show xm_Imp g Γ 147 (xi_psh (.int (0)) 148) from xs_iconst hΓ dX5_one_147 (by decide)) ?_
      exact hB_148 _ _ _ _ _ _ e hp
def B_X5_two_80 (l4 : Int32) (l5 : Int32) (l6 : Int32) (l7 : Int32) (σ : xM_S) : xM_S :=
 (if l4 = 0 then
 σ else
 (if l7 = 0 then
 σ else
 (if l6 = l5 then
 (xM_f σ 8 (1 - (σ.1 8))) else
 σ)))
def B_X5_two_63 (l2 : Int32) (l4 : Int32) (l5 : Int32) (l6 : Int32) (l7 : Int32) (σ : xM_S) : xM_S :=
 (if l7 = 0 then
 B_X5_two_80 l4 l5 l6 l7 σ else
 B_X5_two_80 l4 l5 l6 l7 (xM_f σ 7 ((σ.1 7) ^^^ (1 <<< (l2 &&& 31)))))
def B_X5_two_148 (l4 : Int32) (l5 : Int32) (l6 : Int32) (l7 : Int32) (σ : xM_S) : xM_S :=
 (if l4 = 0 then
 σ else
 (if l6 = 0 then
 σ else
 (if l5 = l7 then
 σ else
 (xM_f σ 8 (1 - (σ.1 8))))))
def B_X5_two_131 (l3 : Int32) (l4 : Int32) (l5 : Int32) (l6 : Int32) (l7 : Int32) (σ : xM_S) : xM_S :=
 (if l4 = 0 then
 B_X5_two_148 l4 l5 l6 l7 σ else
 B_X5_two_148 l4 l5 l6 l7 (xM_f σ 7 ((σ.1 7) ^^^ (1 <<< (l3 &&& 31)))))
def B_X5_two_199 (l2 : Int32) (l3 : Int32) (l5 : Int32) (l7 : Int32) (σ : xM_S) : xM_S :=
 (if l5 = l7 then
 σ else
 (xM_f σ 7 (((σ.1 7) ^^^ (1 <<< (l2 &&& 31))) ^^^ (1 <<< (l3 &&& 31)))))
def F_X5_two (p1 : Int32) (p2 : Int32) (p3 : Int32) (σ : xM_S) : xM_S :=
 (if p1 = 6 then
 (if (F_X5_has (σ.1 6) p2) = 0 then
 B_X5_two_63 p2 (F_X5_has (σ.1 6) p2) (F_X5_has (σ.1 7) p2) (F_X5_has (σ.1 6) p3) (F_X5_has (σ.1 7) p3) σ else
 B_X5_two_63 p2 (F_X5_has (σ.1 6) p2) (F_X5_has (σ.1 7) p2) (F_X5_has (σ.1 6) p3) (F_X5_has (σ.1 7) p3) (xM_f σ 6 ((σ.1 6) ^^^ (1 <<< (p3 &&& 31))))) else
 (if p1 = 7 then
 (if (F_X5_has (σ.1 6) p3) = 0 then
 B_X5_two_131 p3 (F_X5_has (σ.1 6) p2) (F_X5_has (σ.1 7) p2) (F_X5_has (σ.1 6) p3) (F_X5_has (σ.1 7) p3) σ else
 B_X5_two_131 p3 (F_X5_has (σ.1 6) p2) (F_X5_has (σ.1 7) p2) (F_X5_has (σ.1 6) p3) (F_X5_has (σ.1 7) p3) (xM_f σ 7 ((σ.1 7) ^^^ (1 <<< (p2 &&& 31))))) else
 (if (F_X5_has (σ.1 6) p2) = (F_X5_has (σ.1 6) p3) then
 B_X5_two_199 p2 p3 (F_X5_has (σ.1 7) p2) (F_X5_has (σ.1 7) p3) σ else
 B_X5_two_199 p2 p3 (F_X5_has (σ.1 7) p2) (F_X5_has (σ.1 7) p3) (xM_f σ 6 (((σ.1 6) ^^^ (1 <<< (p2 &&& 31))) ^^^ (1 <<< (p3 &&& 31)))))))
set_option maxHeartbeats 4000000 in
theorem K_X5_two {g : xm_G} (hG : xm_Gw g) {h0 : xm_H} {m : Nat} {ad : Nat → Nat} (hM : xM_ok h0 m ad) (hB : xk_B g h0) (p1 : Int32) (p2 : Int32) (p3 : Int32) (σ : xM_S) {o : xM_S} (e : F_X5_two p1 p2 p3 σ = o) {Q : xm_P} {X : xm_X} (hQ : Q none (xMp h0 m ad o)) : xm_Run g M_X5_two 2 [.ref m, .int p1, .int p2, .int p3] (xMp h0 m ad σ) 0 0 Q X := by
  refine xm_Run.of pn_StringTableauModel (Nat.le_of_ble_eq_true rfl) (fun Γ hΓ => ?_)
  obtain ⟨P0, hP0, hp⟩ : ∃ P : xM_S → Prop, (∀ o, P o → Q none (xMp h0 m ad o)) ∧ P o := ⟨fun o => Q none (xMp h0 m ad o), fun _ h => h, hQ⟩
  clear hQ
  show xm_W g Γ 0 [some (.ref m), some (.int p1), some (.int p2), some (.int p3), none, none, none, none] [] (xMp h0 m ad σ) 0 0
  have hB_80 : ∀ (l4 : Int32) (l5 : Int32) (l6 : Int32) (l7 : Int32) (σ : xM_S) (o : xM_S), B_X5_two_80 l4 l5 l6 l7 σ = o → P0 o → xm_W g Γ 80 [some (.ref m), none, none, none, some (.int l4), some (.int l5), some (.int l6), some (.int l7)] [] (xMp h0 m ad σ) 0 0 := by
    intro l4 l5 l6 l7 σ o e hp
    unfold B_X5_two_80 at e
    refine xw_ild (show xm_Imp g Γ 80 (xi_ild 4 82) from xs_iload hΓ dX5_two_80) rfl ?_
    refine xw_if (show xm_Imp g Γ 82 (xi_if (fun x => x = 0) 107 85) from xs_if_eq hΓ dX5_two_82 (by decide)) (fun c => ?_) (fun c => ?_)
    · rw [if_pos c] at e
      exact xw_vret (show xm_Imp g Γ 107 (xi_vret _) from xs_return hΓ rfl dX5_two_107) (hP0 _ (xl_finV e hp))
    · rw [if_neg c] at e
      refine xw_ild (show xm_Imp g Γ 85 (xi_ild 7 87) from xs_iload hΓ dX5_two_85) rfl ?_
      refine xw_if (show xm_Imp g Γ 87 (xi_if (fun x => x = 0) 107 90) from xs_if_eq hΓ dX5_two_87 (by decide)) (fun c => ?_) (fun c => ?_)
      · rw [if_pos c] at e
        exact xw_vret (show xm_Imp g Γ 107 (xi_vret _) from xs_return hΓ rfl dX5_two_107) (hP0 _ (xl_finV e hp))
      · rw [if_neg c] at e
        refine xw_ild (show xm_Imp g Γ 90 (xi_ild 6 92) from xs_iload hΓ dX5_two_90) rfl ?_
        refine xw_ild (show xm_Imp g Γ 92 (xi_ild 5 94) from xs_iload hΓ dX5_two_92) rfl ?_
        refine xw_ic (show xm_Imp g Γ 94 (xi_ic (fun x y => x = y) 97 107) from xs_icmp_ne hΓ dX5_two_94 (by decide)) (fun c => ?_) (fun c => ?_)
        · rw [if_pos c] at e
          refine xw_ald (show xm_Imp g Γ 97 (xi_ald 0 98) from xs_aload_n hΓ dX5_two_97) rfl ?_
          refine xw_psh (v := (.int (1))) (show xm_Imp g Γ 98 (xi_psh (.int (1)) 99) from xs_iconst hΓ dX5_two_98 (by decide)) ?_
          refine xw_ald (show xm_Imp g Γ 99 (xi_ald 0 100) from xs_aload_n hΓ dX5_two_99) rfl ?_
          refine xw_mgi (v := (σ.1 8)) (show xm_Imp g Γ 100 (xi_get 4 8 103) from xs_get hG hΓ (ci := 4) (kf := 8) rfl (Nat.le_of_ble_eq_true rfl) q2858 dX5_two_100) (fun _ => rfl) rfl ?_
          refine xw_ii (show xm_Imp g Γ 103 (xi_ii (fun x y => x - y) 104) from xs_isub hΓ dX5_two_103) ?_
          refine xw_mpi (show xm_Imp g Γ 104 (xi_put 4 8 (.int) 107) from xs_put hG hΓ (ci := 4) (kf := 8) rfl (Nat.le_of_ble_eq_true rfl) rfl (by decide +kernel) q2858 dX5_two_104) (fun _ _ => rfl) ⟨rfl, rfl⟩ ?_
          exact xw_vret (show xm_Imp g Γ 107 (xi_vret _) from xs_return hΓ rfl dX5_two_107) (hP0 _ (xl_finV e hp))
        · rw [if_neg c] at e
          exact xw_vret (show xm_Imp g Γ 107 (xi_vret _) from xs_return hΓ rfl dX5_two_107) (hP0 _ (xl_finV e hp))
  have hB_63 : ∀ (l2 : Int32) (l4 : Int32) (l5 : Int32) (l6 : Int32) (l7 : Int32) (σ : xM_S) (o : xM_S), B_X5_two_63 l2 l4 l5 l6 l7 σ = o → P0 o → xm_W g Γ 63 [some (.ref m), none, some (.int l2), none, some (.int l4), some (.int l5), some (.int l6), some (.int l7)] [] (xMp h0 m ad σ) 0 0 := by
    intro l2 l4 l5 l6 l7 σ o e hp
    unfold B_X5_two_63 at e
    refine xw_ild (show xm_Imp g Γ 63 (xi_ild 7 65) from xs_iload hΓ dX5_two_63) rfl ?_
    refine xw_if (show xm_Imp g Γ 65 (xi_if (fun x => x = 0) 80 68) from xs_if_eq hΓ dX5_two_65 (by decide)) (fun c => ?_) (fun c => ?_)
    · rw [if_pos c] at e
      exact xm_lx (hB_80 _ _ _ _ _ _ e hp) (And.intro rfl (And.intro rfl (And.intro rfl (And.intro rfl (And.intro rfl (trivial))))))
    · rw [if_neg c] at e
      refine xw_ald (show xm_Imp g Γ 68 (xi_ald 0 69) from xs_aload_n hΓ dX5_two_68) rfl ?_
      refine xw_ald (show xm_Imp g Γ 69 (xi_ald 0 70) from xs_aload_n hΓ dX5_two_69) rfl ?_
      refine xw_mgi (v := (σ.1 7)) (show xm_Imp g Γ 70 (xi_get 4 7 73) from xs_get hG hΓ (ci := 4) (kf := 7) rfl (Nat.le_of_ble_eq_true rfl) q2857 dX5_two_70) (fun _ => rfl) rfl ?_
      refine xw_psh (v := (.int (1))) (show xm_Imp g Γ 73 (xi_psh (.int (1)) 74) from xs_iconst hΓ dX5_two_73 (by decide)) ?_
      refine xw_ild (show xm_Imp g Γ 74 (xi_ild 2 75) from xs_iload_n hΓ dX5_two_74) rfl ?_
      refine xw_ii (show xm_Imp g Γ 75 (xi_ii (fun x y => x <<< (y &&& 31)) 76) from xs_ishl hΓ dX5_two_75) ?_
      refine xw_ii (show xm_Imp g Γ 76 (xi_ii (fun x y => x ^^^ y) 77) from xs_ixor hΓ dX5_two_76) ?_
      refine xw_mpi (show xm_Imp g Γ 77 (xi_put 4 7 (.int) 80) from xs_put hG hΓ (ci := 4) (kf := 7) rfl (Nat.le_of_ble_eq_true rfl) rfl (by decide +kernel) q2857 dX5_two_77) (fun _ _ => rfl) ⟨rfl, rfl⟩ ?_
      exact xm_lx (hB_80 _ _ _ _ _ _ e hp) (And.intro rfl (And.intro rfl (And.intro rfl (And.intro rfl (And.intro rfl (trivial))))))
  have hB_148 : ∀ (l4 : Int32) (l5 : Int32) (l6 : Int32) (l7 : Int32) (σ : xM_S) (o : xM_S), B_X5_two_148 l4 l5 l6 l7 σ = o → P0 o → xm_W g Γ 148 [some (.ref m), none, none, none, some (.int l4), some (.int l5), some (.int l6), some (.int l7)] [] (xMp h0 m ad σ) 0 0 := by
    intro l4 l5 l6 l7 σ o e hp
    unfold B_X5_two_148 at e
    refine xw_ild (show xm_Imp g Γ 148 (xi_ild 4 150) from xs_iload hΓ dX5_two_148) rfl ?_
    refine xw_if (show xm_Imp g Γ 150 (xi_if (fun x => x = 0) 175 153) from xs_if_eq hΓ dX5_two_150 (by decide)) (fun c => ?_) (fun c => ?_)
    · rw [if_pos c] at e
      exact xw_vret (show xm_Imp g Γ 175 (xi_vret _) from xs_return hΓ rfl dX5_two_175) (hP0 _ (xl_finV e hp))
    · rw [if_neg c] at e
      refine xw_ild (show xm_Imp g Γ 153 (xi_ild 6 155) from xs_iload hΓ dX5_two_153) rfl ?_
      refine xw_if (show xm_Imp g Γ 155 (xi_if (fun x => x = 0) 175 158) from xs_if_eq hΓ dX5_two_155 (by decide)) (fun c => ?_) (fun c => ?_)
      · rw [if_pos c] at e
        exact xw_vret (show xm_Imp g Γ 175 (xi_vret _) from xs_return hΓ rfl dX5_two_175) (hP0 _ (xl_finV e hp))
      · rw [if_neg c] at e
        refine xw_ild (show xm_Imp g Γ 158 (xi_ild 5 160) from xs_iload hΓ dX5_two_158) rfl ?_
        refine xw_ild (show xm_Imp g Γ 160 (xi_ild 7 162) from xs_iload hΓ dX5_two_160) rfl ?_
        refine xw_ic (show xm_Imp g Γ 162 (xi_ic (fun x y => x = y) 175 165) from xs_icmp_eq hΓ dX5_two_162 (by decide)) (fun c => ?_) (fun c => ?_)
        · rw [if_pos c] at e
          exact xw_vret (show xm_Imp g Γ 175 (xi_vret _) from xs_return hΓ rfl dX5_two_175) (hP0 _ (xl_finV e hp))
        · rw [if_neg c] at e
          refine xw_ald (show xm_Imp g Γ 165 (xi_ald 0 166) from xs_aload_n hΓ dX5_two_165) rfl ?_
          refine xw_psh (v := (.int (1))) (show xm_Imp g Γ 166 (xi_psh (.int (1)) 167) from xs_iconst hΓ dX5_two_166 (by decide)) ?_
          refine xw_ald (show xm_Imp g Γ 167 (xi_ald 0 168) from xs_aload_n hΓ dX5_two_167) rfl ?_
          refine xw_mgi (v := (σ.1 8)) (show xm_Imp g Γ 168 (xi_get 4 8 171) from xs_get hG hΓ (ci := 4) (kf := 8) rfl (Nat.le_of_ble_eq_true rfl) q2858 dX5_two_168) (fun _ => rfl) rfl ?_
          refine xw_ii (show xm_Imp g Γ 171 (xi_ii (fun x y => x - y) 172) from xs_isub hΓ dX5_two_171) ?_
          refine xw_mpi (show xm_Imp g Γ 172 (xi_put 4 8 (.int) 175) from xs_put hG hΓ (ci := 4) (kf := 8) rfl (Nat.le_of_ble_eq_true rfl) rfl (by decide +kernel) q2858 dX5_two_172) (fun _ _ => rfl) ⟨rfl, rfl⟩ ?_
          exact xw_vret (show xm_Imp g Γ 175 (xi_vret _) from xs_return hΓ rfl dX5_two_175) (hP0 _ (xl_finV e hp))
  have hB_131 : ∀ (l3 : Int32) (l4 : Int32) (l5 : Int32) (l6 : Int32) (l7 : Int32) (σ : xM_S) (o : xM_S), B_X5_two_131 l3 l4 l5 l6 l7 σ = o → P0 o → xm_W g Γ 131 [some (.ref m), none, none, some (.int l3), some (.int l4), some (.int l5), some (.int l6), some (.int l7)] [] (xMp h0 m ad σ) 0 0 := by
    intro l3 l4 l5 l6 l7 σ o e hp
    unfold B_X5_two_131 at e
    refine xw_ild (show xm_Imp g Γ 131 (xi_ild 4 133) from xs_iload hΓ dX5_two_131) rfl ?_
    refine xw_if (show xm_Imp g Γ 133 (xi_if (fun x => x = 0) 148 136) from xs_if_eq hΓ dX5_two_133 (by decide)) (fun c => ?_) (fun c => ?_)
    · rw [if_pos c] at e
      exact xm_lx (hB_148 _ _ _ _ _ _ e hp) (And.intro rfl (And.intro rfl (And.intro rfl (And.intro rfl (And.intro rfl (trivial))))))
    · rw [if_neg c] at e
      refine xw_ald (show xm_Imp g Γ 136 (xi_ald 0 137) from xs_aload_n hΓ dX5_two_136) rfl ?_
      refine xw_ald (show xm_Imp g Γ 137 (xi_ald 0 138) from xs_aload_n hΓ dX5_two_137) rfl ?_
      refine xw_mgi (v := (σ.1 7)) (show xm_Imp g Γ 138 (xi_get 4 7 141) from xs_get hG hΓ (ci := 4) (kf := 7) rfl (Nat.le_of_ble_eq_true rfl) q2857 dX5_two_138) (fun _ => rfl) rfl ?_
      refine xw_psh (v := (.int (1))) (show xm_Imp g Γ 141 (xi_psh (.int (1)) 142) from xs_iconst hΓ dX5_two_141 (by decide)) ?_
      refine xw_ild (show xm_Imp g Γ 142 (xi_ild 3 143) from xs_iload_n hΓ dX5_two_142) rfl ?_
      refine xw_ii (show xm_Imp g Γ 143 (xi_ii (fun x y => x <<< (y &&& 31)) 144) from xs_ishl hΓ dX5_two_143) ?_
      refine xw_ii (show xm_Imp g Γ 144 (xi_ii (fun x y => x ^^^ y) 145) from xs_ixor hΓ dX5_two_144) ?_
      refine xw_mpi (show xm_Imp g Γ 145 (xi_put 4 7 (.int) 148) from xs_put hG hΓ (ci := 4) (kf := 7) rfl (Nat.le_of_ble_eq_true rfl) rfl (by decide +kernel) q2857 dX5_two_145) (fun _ _ => rfl) ⟨rfl, rfl⟩ ?_
      exact xm_lx (hB_148 _ _ _ _ _ _ e hp) (And.intro rfl (And.intro rfl (And.intro rfl (And.intro rfl (And.intro rfl (trivial))))))
  have hB_199 : ∀ (l2 : Int32) (l3 : Int32) (l5 : Int32) (l7 : Int32) (σ : xM_S) (o : xM_S), B_X5_two_199 l2 l3 l5 l7 σ = o → P0 o → xm_W g Γ 199 [some (.ref m), none, some (.int l2), some (.int l3), none, some (.int l5), none, some (.int l7)] [] (xMp h0 m ad σ) 0 0 := by
    intro l2 l3 l5 l7 σ o e hp
    unfold B_X5_two_199 at e
    refine xw_ild (show xm_Imp g Γ 199 (xi_ild 5 201) from xs_iload hΓ dX5_two_199) rfl ?_
    refine xw_ild (show xm_Imp g Γ 201 (xi_ild 7 203) from xs_iload hΓ dX5_two_201) rfl ?_
    refine xw_ic (show xm_Imp g Γ 203 (xi_ic (fun x y => x = y) 222 206) from xs_icmp_eq hΓ dX5_two_203 (by decide)) (fun c => ?_) (fun c => ?_)
    · rw [if_pos c] at e
      exact xw_vret (show xm_Imp g Γ 222 (xi_vret _) from xs_return hΓ rfl dX5_two_222) (hP0 _ (xl_finV e hp))
    · rw [if_neg c] at e
      refine xw_ald (show xm_Imp g Γ 206 (xi_ald 0 207) from xs_aload_n hΓ dX5_two_206) rfl ?_
      refine xw_ald (show xm_Imp g Γ 207 (xi_ald 0 208) from xs_aload_n hΓ dX5_two_207) rfl ?_
      refine xw_mgi (v := (σ.1 7)) (show xm_Imp g Γ 208 (xi_get 4 7 211) from xs_get hG hΓ (ci := 4) (kf := 7) rfl (Nat.le_of_ble_eq_true rfl) q2857 dX5_two_208) (fun _ => rfl) rfl ?_
      refine xw_psh (v := (.int (1))) (show xm_Imp g Γ 211 (xi_psh (.int (1)) 212) from xs_iconst hΓ dX5_two_211 (by decide)) ?_
      refine xw_ild (show xm_Imp g Γ 212 (xi_ild 2 213) from xs_iload_n hΓ dX5_two_212) rfl ?_
      refine xw_ii (show xm_Imp g Γ 213 (xi_ii (fun x y => x <<< (y &&& 31)) 214) from xs_ishl hΓ dX5_two_213) ?_
      refine xw_ii (show xm_Imp g Γ 214 (xi_ii (fun x y => x ^^^ y) 215) from xs_ixor hΓ dX5_two_214) ?_
      refine xw_psh (v := (.int (1))) (show xm_Imp g Γ 215 (xi_psh (.int (1)) 216) from xs_iconst hΓ dX5_two_215 (by decide)) ?_
      refine xw_ild (show xm_Imp g Γ 216 (xi_ild 3 217) from xs_iload_n hΓ dX5_two_216) rfl ?_
      refine xw_ii (show xm_Imp g Γ 217 (xi_ii (fun x y => x <<< (y &&& 31)) 218) from xs_ishl hΓ dX5_two_217) ?_
      refine xw_ii (show xm_Imp g Γ 218 (xi_ii (fun x y => x ^^^ y) 219) from xs_ixor hΓ dX5_two_218) ?_
      refine xw_mpi (show xm_Imp g Γ 219 (xi_put 4 7 (.int) 222) from xs_put hG hΓ (ci := 4) (kf := 7) rfl (Nat.le_of_ble_eq_true rfl) rfl (by decide +kernel) q2857 dX5_two_219) (fun _ _ => rfl) ⟨rfl, rfl⟩ ?_
      exact xw_vret (show xm_Imp g Γ 222 (xi_vret _) from xs_return hΓ rfl dX5_two_222) (hP0 _ (xl_finV e hp))
  unfold F_X5_two at e
  refine xw_ald (show xm_Imp g Γ 0 (xi_ald 0 1) from xs_aload_n hΓ dX5_two_0) rfl ?_
  refine xw_mgi (v := (σ.1 6)) (show xm_Imp g Γ 1 (xi_get 4 6 4) from xs_get hG hΓ (ci := 4) (kf := 6) rfl (Nat.le_of_ble_eq_true rfl) q2856 dX5_two_1) (fun _ => rfl) rfl ?_
  refine xw_ild (show xm_Imp g Γ 4 (xi_ild 2 5) from xs_iload_n hΓ dX5_two_4) rfl ?_
  refine xw_sv2 (show xm_Imp g Γ 5 (xi_inv g M_X5_has 1 2 8) from xs_invS hG hΓ k_X5_has rfl q3037 q3038 dX5_two_5) rfl (fun Q X hQ => K_X5_has hG (σ.1 6) p2 rfl hQ) ?_
  refine xw_ist (ls' := [some (.ref m), some (.int p1), some (.int p2), some (.int p3), some (.int (F_X5_has (σ.1 6) p2)), none, none, none]) (show xm_Imp g Γ 8 (xi_ist 4 10) from xs_istore hΓ dX5_two_8 (Nat.le_of_ble_eq_true rfl)) rfl ?_
  refine xw_ald (show xm_Imp g Γ 10 (xi_ald 0 11) from xs_aload_n hΓ dX5_two_10) rfl ?_
  refine xw_mgi (v := (σ.1 7)) (show xm_Imp g Γ 11 (xi_get 4 7 14) from xs_get hG hΓ (ci := 4) (kf := 7) rfl (Nat.le_of_ble_eq_true rfl) q2857 dX5_two_11) (fun _ => rfl) rfl ?_
  refine xw_ild (show xm_Imp g Γ 14 (xi_ild 2 15) from xs_iload_n hΓ dX5_two_14) rfl ?_
  refine xw_sv2 (show xm_Imp g Γ 15 (xi_inv g M_X5_has 1 2 18) from xs_invS hG hΓ k_X5_has rfl q3037 q3038 dX5_two_15) rfl (fun Q X hQ => K_X5_has hG (σ.1 7) p2 rfl hQ) ?_
  refine xw_ist (ls' := [some (.ref m), some (.int p1), some (.int p2), some (.int p3), some (.int (F_X5_has (σ.1 6) p2)), some (.int (F_X5_has (σ.1 7) p2)), none, none]) (show xm_Imp g Γ 18 (xi_ist 5 20) from xs_istore hΓ dX5_two_18 (Nat.le_of_ble_eq_true rfl)) rfl ?_
  refine xw_ald (show xm_Imp g Γ 20 (xi_ald 0 21) from xs_aload_n hΓ dX5_two_20) rfl ?_
  refine xw_mgi (v := (σ.1 6)) (show xm_Imp g Γ 21 (xi_get 4 6 24) from xs_get hG hΓ (ci := 4) (kf := 6) rfl (Nat.le_of_ble_eq_true rfl) q2856 dX5_two_21) (fun _ => rfl) rfl ?_
  refine xw_ild (show xm_Imp g Γ 24 (xi_ild 3 25) from xs_iload_n hΓ dX5_two_24) rfl ?_
  refine xw_sv2 (show xm_Imp g Γ 25 (xi_inv g M_X5_has 1 2 28) from xs_invS hG hΓ k_X5_has rfl q3037 q3038 dX5_two_25) rfl (fun Q X hQ => K_X5_has hG (σ.1 6) p3 rfl hQ) ?_
  refine xw_ist (ls' := [some (.ref m), some (.int p1), some (.int p2), some (.int p3), some (.int (F_X5_has (σ.1 6) p2)), some (.int (F_X5_has (σ.1 7) p2)), some (.int (F_X5_has (σ.1 6) p3)), none]) (show xm_Imp g Γ 28 (xi_ist 6 30) from xs_istore hΓ dX5_two_28 (Nat.le_of_ble_eq_true rfl)) rfl ?_
  refine xw_ald (show xm_Imp g Γ 30 (xi_ald 0 31) from xs_aload_n hΓ dX5_two_30) rfl ?_
  refine xw_mgi (v := (σ.1 7)) (show xm_Imp g Γ 31 (xi_get 4 7 34) from xs_get hG hΓ (ci := 4) (kf := 7) rfl (Nat.le_of_ble_eq_true rfl) q2857 dX5_two_31) (fun _ => rfl) rfl ?_
  refine xw_ild (show xm_Imp g Γ 34 (xi_ild 3 35) from xs_iload_n hΓ dX5_two_34) rfl ?_
  refine xw_sv2 (show xm_Imp g Γ 35 (xi_inv g M_X5_has 1 2 38) from xs_invS hG hΓ k_X5_has rfl q3037 q3038 dX5_two_35) rfl (fun Q X hQ => K_X5_has hG (σ.1 7) p3 rfl hQ) ?_
  refine xw_ist (ls' := [some (.ref m), some (.int p1), some (.int p2), some (.int p3), some (.int (F_X5_has (σ.1 6) p2)), some (.int (F_X5_has (σ.1 7) p2)), some (.int (F_X5_has (σ.1 6) p3)), some (.int (F_X5_has (σ.1 7) p3))]) (show xm_Imp g Γ 38 (xi_ist 7 40) from xs_istore hΓ dX5_two_38 (Nat.le_of_ble_eq_true rfl)) rfl ?_
  refine xw_ild (show xm_Imp g Γ 40 (xi_ild 1 41) from xs_iload_n hΓ dX5_two_40) rfl ?_
  refine xw_psh (v := (.int (6))) (show xm_Imp g Γ 41 (xi_psh (.int (6)) 43) from xs_bipush hΓ dX5_two_41 (by decide)) ?_
  refine xw_ic (show xm_Imp g Γ 43 (xi_ic (fun x y => x = y) 46 108) from xs_icmp_ne hΓ dX5_two_43 (by decide)) (fun c => ?_) (fun c => ?_)
  · rw [if_pos c] at e
    refine xw_ild (show xm_Imp g Γ 46 (xi_ild 4 48) from xs_iload hΓ dX5_two_46) rfl ?_
    refine xw_if (show xm_Imp g Γ 48 (xi_if (fun x => x = 0) 63 51) from xs_if_eq hΓ dX5_two_48 (by decide)) (fun c => ?_) (fun c => ?_)
    · rw [if_pos c] at e
      exact xm_lx (hB_63 _ _ _ _ _ _ _ e hp) (And.intro rfl (And.intro rfl (And.intro rfl (And.intro rfl (And.intro rfl (And.intro rfl (trivial)))))))
    · rw [if_neg c] at e
      refine xw_ald (show xm_Imp g Γ 51 (xi_ald 0 52) from xs_aload_n hΓ dX5_two_51) rfl ?_
      refine xw_ald (show xm_Imp g Γ 52 (xi_ald 0 53) from xs_aload_n hΓ dX5_two_52) rfl ?_
      refine xw_mgi (v := (σ.1 6)) (show xm_Imp g Γ 53 (xi_get 4 6 56) from xs_get hG hΓ (ci := 4) (kf := 6) rfl (Nat.le_of_ble_eq_true rfl) q2856 dX5_two_53) (fun _ => rfl) rfl ?_
      refine xw_psh (v := (.int (1))) (show xm_Imp g Γ 56 (xi_psh (.int (1)) 57) from xs_iconst hΓ dX5_two_56 (by decide)) ?_
      refine xw_ild (show xm_Imp g Γ 57 (xi_ild 3 58) from xs_iload_n hΓ dX5_two_57) rfl ?_
      refine xw_ii (show xm_Imp g Γ 58 (xi_ii (fun x y => x <<< (y &&& 31)) 59) from xs_ishl hΓ dX5_two_58) ?_
      refine xw_ii (show xm_Imp g Γ 59 (xi_ii (fun x y => x ^^^ y) 60) from xs_ixor hΓ dX5_two_59) ?_
      refine xw_mpi (show xm_Imp g Γ 60 (xi_put 4 6 (.int) 63) from xs_put hG hΓ (ci := 4) (kf := 6) rfl (Nat.le_of_ble_eq_true rfl) rfl (by decide +kernel) q2856 dX5_two_60) (fun _ _ => rfl) ⟨rfl, rfl⟩ ?_
      exact xm_lx (hB_63 _ _ _ _ _ _ _ e hp) (And.intro rfl (And.intro rfl (And.intro rfl (And.intro rfl (And.intro rfl (And.intro rfl (trivial)))))))
  · rw [if_neg c] at e
    refine xw_ild (show xm_Imp g Γ 108 (xi_ild 1 109) from xs_iload_n hΓ dX5_two_108) rfl ?_
    refine xw_psh (v := (.int (7))) (show xm_Imp g Γ 109 (xi_psh (.int (7)) 111) from xs_bipush hΓ dX5_two_109 (by decide)) ?_
    refine xw_ic (show xm_Imp g Γ 111 (xi_ic (fun x y => x = y) 114 176) from xs_icmp_ne hΓ dX5_two_111 (by decide)) (fun c => ?_) (fun c => ?_)
    · rw [if_pos c] at e
      refine xw_ild (show xm_Imp g Γ 114 (xi_ild 6 116) from xs_iload hΓ dX5_two_114) rfl ?_
      refine xw_if (show xm_Imp g Γ 116 (xi_if (fun x => x = 0) 131 119) from xs_if_eq hΓ dX5_two_116 (by decide)) (fun c => ?_) (fun c => ?_)
      · rw [if_pos c] at e
        exact xm_lx (hB_131 _ _ _ _ _ _ _ e hp) (And.intro rfl (And.intro rfl (And.intro rfl (And.intro rfl (And.intro rfl (And.intro rfl (trivial)))))))
      · rw [if_neg c] at e
        refine xw_ald (show xm_Imp g Γ 119 (xi_ald 0 120) from xs_aload_n hΓ dX5_two_119) rfl ?_
        refine xw_ald (show xm_Imp g Γ 120 (xi_ald 0 121) from xs_aload_n hΓ dX5_two_120) rfl ?_
        refine xw_mgi (v := (σ.1 7)) (show xm_Imp g Γ 121 (xi_get 4 7 124) from xs_get hG hΓ (ci := 4) (kf := 7) rfl (Nat.le_of_ble_eq_true rfl) q2857 dX5_two_121) (fun _ => rfl) rfl ?_
        refine xw_psh (v := (.int (1))) (show xm_Imp g Γ 124 (xi_psh (.int (1)) 125) from xs_iconst hΓ dX5_two_124 (by decide)) ?_
        refine xw_ild (show xm_Imp g Γ 125 (xi_ild 2 126) from xs_iload_n hΓ dX5_two_125) rfl ?_
        refine xw_ii (show xm_Imp g Γ 126 (xi_ii (fun x y => x <<< (y &&& 31)) 127) from xs_ishl hΓ dX5_two_126) ?_
        refine xw_ii (show xm_Imp g Γ 127 (xi_ii (fun x y => x ^^^ y) 128) from xs_ixor hΓ dX5_two_127) ?_
        refine xw_mpi (show xm_Imp g Γ 128 (xi_put 4 7 (.int) 131) from xs_put hG hΓ (ci := 4) (kf := 7) rfl (Nat.le_of_ble_eq_true rfl) rfl (by decide +kernel) q2857 dX5_two_128) (fun _ _ => rfl) ⟨rfl, rfl⟩ ?_
        exact xm_lx (hB_131 _ _ _ _ _ _ _ e hp) (And.intro rfl (And.intro rfl (And.intro rfl (And.intro rfl (And.intro rfl (And.intro rfl (trivial)))))))
    · rw [if_neg c] at e
      refine xw_ild (show xm_Imp g Γ 176 (xi_ild 4 178) from xs_iload hΓ dX5_two_176) rfl ?_
      refine xw_ild (show xm_Imp g Γ 178 (xi_ild 6 180) from xs_iload hΓ dX5_two_178) rfl ?_
      refine xw_ic (show xm_Imp g Γ 180 (xi_ic (fun x y => x = y) 199 183) from xs_icmp_eq hΓ dX5_two_180 (by decide)) (fun c => ?_) (fun c => ?_)
      · rw [if_pos c] at e
        exact xm_lx (hB_199 _ _ _ _ _ _ e hp) (And.intro rfl (And.intro rfl (And.intro rfl (And.intro rfl (And.intro rfl (trivial))))))
      · rw [if_neg c] at e
        refine xw_ald (show xm_Imp g Γ 183 (xi_ald 0 184) from xs_aload_n hΓ dX5_two_183) rfl ?_
        refine xw_ald (show xm_Imp g Γ 184 (xi_ald 0 185) from xs_aload_n hΓ dX5_two_184) rfl ?_
        refine xw_mgi (v := (σ.1 6)) (show xm_Imp g Γ 185 (xi_get 4 6 188) from xs_get hG hΓ (ci := 4) (kf := 6) rfl (Nat.le_of_ble_eq_true rfl) q2856 dX5_two_185) (fun _ => rfl) rfl ?_
        refine xw_psh (v := (.int (1))) (show xm_Imp g Γ 188 (xi_psh (.int (1)) 189) from xs_iconst hΓ dX5_two_188 (by decide)) ?_
        refine xw_ild (show xm_Imp g Γ 189 (xi_ild 2 190) from xs_iload_n hΓ dX5_two_189) rfl ?_
        refine xw_ii (show xm_Imp g Γ 190 (xi_ii (fun x y => x <<< (y &&& 31)) 191) from xs_ishl hΓ dX5_two_190) ?_
        refine xw_ii (show xm_Imp g Γ 191 (xi_ii (fun x y => x ^^^ y) 192) from xs_ixor hΓ dX5_two_191) ?_
        refine xw_psh (v := (.int (1))) (show xm_Imp g Γ 192 (xi_psh (.int (1)) 193) from xs_iconst hΓ dX5_two_192 (by decide)) ?_
        refine xw_ild (show xm_Imp g Γ 193 (xi_ild 3 194) from xs_iload_n hΓ dX5_two_193) rfl ?_
        refine xw_ii (show xm_Imp g Γ 194 (xi_ii (fun x y => x <<< (y &&& 31)) 195) from xs_ishl hΓ dX5_two_194) ?_
        refine xw_ii (show xm_Imp g Γ 195 (xi_ii (fun x y => x ^^^ y) 196) from xs_ixor hΓ dX5_two_195) ?_
        refine xw_mpi (show xm_Imp g Γ 196 (xi_put 4 6 (.int) 199) from xs_put hG hΓ (ci := 4) (kf := 6) rfl (Nat.le_of_ble_eq_true rfl) rfl (by decide +kernel) q2856 dX5_two_196) (fun _ _ => rfl) ⟨rfl, rfl⟩ ?_
        exact xm_lx (hB_199 _ _ _ _ _ _ e hp) (And.intro rfl (And.intro rfl (And.intro rfl (And.intro rfl (And.intro rfl (trivial))))))
def F_X5_does (p1 : Int32) (p2 : Int32) (p3 : Int32) (σ : xM_S) : xM_S :=
 (if 6 ≤ p1 then
 (F_X5_two p1 p2 p3 σ) else
 (F_X5_one p1 p2 σ))
set_option maxHeartbeats 4000000 in
theorem K_X5_does {g : xm_G} (hG : xm_Gw g) {h0 : xm_H} {m : Nat} {ad : Nat → Nat} (hM : xM_ok h0 m ad) (hB : xk_B g h0) (p1 : Int32) (p2 : Int32) (p3 : Int32) (σ : xM_S) {o : xM_S} (e : F_X5_does p1 p2 p3 σ = o) {Q : xm_P} {X : xm_X} (hQ : Q none (xMp h0 m ad o)) : xm_Run g M_X5_does 4 [.ref m, .int p1, .int p2, .int p3] (xMp h0 m ad σ) 0 0 Q X := by
  refine xm_Run.of pn_StringTableauModel (Nat.le_of_ble_eq_true rfl) (fun Γ hΓ => ?_)
  obtain ⟨P0, hP0, hp⟩ : ∃ P : xM_S → Prop, (∀ o, P o → Q none (xMp h0 m ad o)) ∧ P o := ⟨fun o => Q none (xMp h0 m ad o), fun _ h => h, hQ⟩
  clear hQ
  show xm_W g Γ 0 [some (.ref m), some (.int p1), some (.int p2), some (.int p3)] [] (xMp h0 m ad σ) 0 0
  unfold F_X5_does at e
  refine xw_ild (show xm_Imp g Γ 0 (xi_ild 1 1) from xs_iload_n hΓ dX5_does_0) rfl ?_
  refine xw_psh (v := (.int (6))) (show xm_Imp g Γ 1 (xi_psh (.int (6)) 3) from xs_bipush hΓ dX5_does_1 (by decide)) ?_
  refine xw_ic (show xm_Imp g Γ 3 (xi_ic (fun x y => y ≤ x) 15 6) from xs_icmp_ge hΓ dX5_does_3 (by decide)) (fun c => ?_) (fun c => ?_)
  · rw [if_pos c] at e
    refine xw_ald (show xm_Imp g Γ 15 (xi_ald 0 16) from xs_aload_n hΓ dX5_does_15) rfl ?_
    refine xw_ild (show xm_Imp g Γ 16 (xi_ild 1 17) from xs_iload_n hΓ dX5_does_16) rfl ?_
    refine xw_ild (show xm_Imp g Γ 17 (xi_ild 2 18) from xs_iload_n hΓ dX5_does_17) rfl ?_
    refine xw_ild (show xm_Imp g Γ 18 (xi_ild 3 19) from xs_iload_n hΓ dX5_does_18) rfl ?_
    refine xw_mu3 (show xm_Imp g Γ 19 (xi_vir g 4 M_X5_two 2 3 22) from xs_invV hG hΓ k_X5_two rfl (ci := 4) rfl q3040 q3042 qs55 dX5_does_19) rfl (fun Q X hQ => K_X5_two hG hM hB p1 p2 p3 σ rfl hQ) ?_
    exact xw_vret (show xm_Imp g Γ 22 (xi_vret _) from xs_return hΓ rfl dX5_does_22) (hP0 _ (xl_finV e hp))
  · rw [if_neg c] at e
    refine xw_ald (show xm_Imp g Γ 6 (xi_ald 0 7) from xs_aload_n hΓ dX5_does_6) rfl ?_
    refine xw_ild (show xm_Imp g Γ 7 (xi_ild 1 8) from xs_iload_n hΓ dX5_does_7) rfl ?_
    refine xw_ild (show xm_Imp g Γ 8 (xi_ild 2 9) from xs_iload_n hΓ dX5_does_8) rfl ?_
    refine xw_mu2 (show xm_Imp g Γ 9 (xi_vir g 4 M_X5_one 3 2 12) from xs_invV hG hΓ k_X5_one rfl (ci := 4) rfl q3030 q3032 qs54 dX5_does_9) rfl (fun Q X hQ => K_X5_one hG hM hB p1 p2 σ rfl hQ) ?_
    refine xw_goto (show xm_Imp g Γ 12 (xi_goto 22) from xs_goto hΓ dX5_does_12 (by decide)) ?_
    exact xw_vret (show xm_Imp g Γ 22 (xi_vret _) from xs_return hΓ rfl dX5_does_22) (hP0 _ (xl_finV e hp))
noncomputable def F_X5_laysRow (p1 : Int32) (σ : xM_S) : Option (xM_S) :=
 xo_b (xa_ix 530 (6 + p1)) (fun j1 =>
 xo_b (xa_ix 530 (14 + p1)) (fun j2 =>
 xo_b (xa_ix 530 (22 + p1)) (fun j3 =>
 some (xM_a (xM_a (xM_a σ 1 j1 (σ.1 6)) 1 j2 (σ.1 7)) 1 j3 (σ.1 8)))))
set_option maxHeartbeats 4000000 in
theorem K_X5_laysRow {g : xm_G} (hG : xm_Gw g) {h0 : xm_H} {m : Nat} {ad : Nat → Nat} (hM : xM_ok h0 m ad) (hB : xk_B g h0) (p1 : Int32) (σ : xM_S) {o : xM_S} (e : F_X5_laysRow p1 σ = some o) {Q : xm_P} {X : xm_X} (hQ : Q none (xMp h0 m ad o)) : xm_Run g M_X5_laysRow 1 [.ref m, .int p1] (xMp h0 m ad σ) 0 0 Q X := by
  refine xm_Run.of pn_StringTableauModel (Nat.le_of_ble_eq_true rfl) (fun Γ hΓ => ?_)
  obtain ⟨P0, hP0, hp⟩ : ∃ P : xM_S → Prop, (∀ o, P o → Q none (xMp h0 m ad o)) ∧ P o := ⟨fun o => Q none (xMp h0 m ad o), fun _ h => h, hQ⟩
  clear hQ
  show xm_W g Γ 0 [some (.ref m), some (.int p1)] [] (xMp h0 m ad σ) 0 0
  unfold F_X5_laysRow at e
  refine xw_ald (show xm_Imp g Γ 0 (xi_ald 0 1) from xs_aload_n hΓ dX5_laysRow_0) rfl ?_
  refine xw_mga (k := 1) (show xm_Imp g Γ 1 (xi_get 4 1 4) from xs_get hG hΓ (ci := 4) (kf := 1) rfl (Nat.le_of_ble_eq_true rfl) q2851 dX5_laysRow_1) (fun _ => rfl) ?_
  refine xw_psh (v := (.int (6))) (show xm_Imp g Γ 4 (xi_psh (.int (6)) 6) from xs_bipush hΓ dX5_laysRow_4 (by decide)) ?_
  refine xw_ild (show xm_Imp g Γ 6 (xi_ild 1 7) from xs_iload_n hΓ dX5_laysRow_6) rfl ?_
  refine xw_ii (show xm_Imp g Γ 7 (xi_ii (fun x y => x + y) 8) from xs_iadd hΓ dX5_laysRow_7) ?_
  refine xw_ald (show xm_Imp g Γ 8 (xi_ald 0 9) from xs_aload_n hΓ dX5_laysRow_8) rfl ?_
  refine xw_mgi (v := (σ.1 6)) (show xm_Imp g Γ 9 (xi_get 4 6 12) from xs_get hG hΓ (ci := 4) (kf := 6) rfl (Nat.le_of_ble_eq_true rfl) q2856 dX5_laysRow_9) (fun _ => rfl) rfl ?_
  obtain ⟨j1, e1, e⟩ := xo_b_s e
  refine xw_mias (k := 1) (show xm_Imp g Γ 12 (xi_ias 13) from xs_ias hG hΓ dX5_laysRow_12) hM (by decide) rfl e1 ?_
  refine xw_ald (show xm_Imp g Γ 13 (xi_ald 0 14) from xs_aload_n hΓ dX5_laysRow_13) rfl ?_
  refine xw_mga (k := 1) (show xm_Imp g Γ 14 (xi_get 4 1 17) from xs_get hG hΓ (ci := 4) (kf := 1) rfl (Nat.le_of_ble_eq_true rfl) q2851 dX5_laysRow_14) (fun _ => rfl) ?_
  refine xw_psh (v := (.int (14))) (show xm_Imp g Γ 17 (xi_psh (.int (14)) 19) from xs_bipush hΓ dX5_laysRow_17 (by decide)) ?_
  refine xw_ild (show xm_Imp g Γ 19 (xi_ild 1 20) from xs_iload_n hΓ dX5_laysRow_19) rfl ?_
  refine xw_ii (show xm_Imp g Γ 20 (xi_ii (fun x y => x + y) 21) from xs_iadd hΓ dX5_laysRow_20) ?_
  refine xw_ald (show xm_Imp g Γ 21 (xi_ald 0 22) from xs_aload_n hΓ dX5_laysRow_21) rfl ?_
  refine xw_mgi (v := (σ.1 7)) (show xm_Imp g Γ 22 (xi_get 4 7 25) from xs_get hG hΓ (ci := 4) (kf := 7) rfl (Nat.le_of_ble_eq_true rfl) q2857 dX5_laysRow_22) (fun _ => rfl) rfl ?_
  obtain ⟨j2, e1, e⟩ := xo_b_s e
  refine xw_mias (k := 1) (show xm_Imp g Γ 25 (xi_ias 26) from xs_ias hG hΓ dX5_laysRow_25) hM (by decide) rfl e1 ?_
  refine xw_ald (show xm_Imp g Γ 26 (xi_ald 0 27) from xs_aload_n hΓ dX5_laysRow_26) rfl ?_
  refine xw_mga (k := 1) (show xm_Imp g Γ 27 (xi_get 4 1 30) from xs_get hG hΓ (ci := 4) (kf := 1) rfl (Nat.le_of_ble_eq_true rfl) q2851 dX5_laysRow_27) (fun _ => rfl) ?_
  refine xw_psh (v := (.int (22))) (show xm_Imp g Γ 30 (xi_psh (.int (22)) 32) from xs_bipush hΓ dX5_laysRow_30 (by decide)) ?_
  refine xw_ild (show xm_Imp g Γ 32 (xi_ild 1 33) from xs_iload_n hΓ dX5_laysRow_32) rfl ?_
  refine xw_ii (show xm_Imp g Γ 33 (xi_ii (fun x y => x + y) 34) from xs_iadd hΓ dX5_laysRow_33) ?_
  refine xw_ald (show xm_Imp g Γ 34 (xi_ald 0 35) from xs_aload_n hΓ dX5_laysRow_34) rfl ?_
  refine xw_mgi (v := (σ.1 8)) (show xm_Imp g Γ 35 (xi_get 4 8 38) from xs_get hG hΓ (ci := 4) (kf := 8) rfl (Nat.le_of_ble_eq_true rfl) q2858 dX5_laysRow_35) (fun _ => rfl) rfl ?_
  obtain ⟨j3, e1, e⟩ := xo_b_s e
  refine xw_mias (k := 1) (show xm_Imp g Γ 38 (xi_ias 39) from xs_ias hG hΓ dX5_laysRow_38) hM (by decide) rfl e1 ?_
  exact xw_vret (show xm_Imp g Γ 39 (xi_vret _) from xs_return hΓ rfl dX5_laysRow_39) (hP0 _ (xl_fin e hp))
noncomputable def D_X5_goes_3 (l1 : Int32) (l2 : Int32) (l3 : Int32) (s : Int32 × xM_S) : Option ((Int32 × xM_S) ⊕ (xM_S)) :=
 (if (s.2.2 1 0) ≤ s.1 then
 xl_o (some (xM_a s.2 1 3 ((s.2.2 1 3) + 1))) else
 xo_b (F_X5_takesRow s.1 s.2) (fun v1 =>
 xo_b (F_X5_laysRow s.1 (F_X5_does l1 l2 l3 v1)) (fun v2 =>
 some (Sum.inl (s.1 + 1, v2)))))
noncomputable def L_X5_goes_3 (l1 : Int32) (l2 : Int32) (l3 : Int32) (s : Int32 × xM_S) : Option (xM_S) := xl_loop (D_X5_goes_3 l1 l2 l3) s
noncomputable def F_X5_goes (p1 : Int32) (p2 : Int32) (p3 : Int32) (σ : xM_S) : Option (xM_S) :=
 L_X5_goes_3 p1 p2 p3 (0, σ)
set_option maxHeartbeats 4000000 in
theorem K_X5_goes {g : xm_G} (hG : xm_Gw g) {h0 : xm_H} {m : Nat} {ad : Nat → Nat} (hM : xM_ok h0 m ad) (hB : xk_B g h0) (p1 : Int32) (p2 : Int32) (p3 : Int32) (σ : xM_S) {o : xM_S} (e : F_X5_goes p1 p2 p3 σ = some o) {Q : xm_P} {X : xm_X} (hQ : Q none (xMp h0 m ad o)) : xm_Run g M_X5_goes 5 [.ref m, .int p1, .int p2, .int p3] (xMp h0 m ad σ) 0 0 Q X := by
  refine xm_Run.of pn_StringTableauModel (Nat.le_of_ble_eq_true rfl) (fun Γ hΓ => ?_)
  obtain ⟨P0, hP0, hp⟩ : ∃ P : xM_S → Prop, (∀ o, P o → Q none (xMp h0 m ad o)) ∧ P o := ⟨fun o => Q none (xMp h0 m ad o), fun _ h => h, hQ⟩
  clear hQ
  show xm_W g Γ 0 [some (.ref m), some (.int p1), some (.int p2), some (.int p3), none] [] (xMp h0 m ad σ) 0 0
  have hL_3 : ∀ (l1 : Int32) (l2 : Int32) (l3 : Int32) (s : Int32 × xM_S) (o : xM_S), L_X5_goes_3 l1 l2 l3 s = some o → P0 o → xm_W g Γ 3 [some (.ref m), some (.int l1), some (.int l2), some (.int l3), some (.int s.1)] [] (xMp h0 m ad s.2) 0 0 := by
    intro l1 l2 l3
    refine xl_rule (WS := fun s : Int32 × xM_S => xm_W g Γ 3 [some (.ref m), some (.int l1), some (.int l2), some (.int l3), some (.int s.1)] [] (xMp h0 m ad s.2) 0 0) ?_
    intro s o e hp
    obtain ⟨P1, hP1, hp⟩ : ∃ P : (Int32 × xM_S) ⊕ (xM_S) → Prop, (∀ o, P o → xl_P (fun s : Int32 × xM_S => xm_W g Γ 3 [some (.ref m), some (.int l1), some (.int l2), some (.int l3), some (.int s.1)] [] (xMp h0 m ad s.2) 0 0) P0 o) ∧ P o := ⟨_, fun _ h => h, hp⟩
    unfold D_X5_goes_3 at e
    refine xw_ild (show xm_Imp g Γ 3 (xi_ild 4 5) from xs_iload hΓ dX5_goes_3) rfl ?_
    refine xw_ald (show xm_Imp g Γ 5 (xi_ald 0 6) from xs_aload_n hΓ dX5_goes_5) rfl ?_
    refine xw_mga (k := 1) (show xm_Imp g Γ 6 (xi_get 4 1 9) from xs_get hG hΓ (ci := 4) (kf := 1) rfl (Nat.le_of_ble_eq_true rfl) q2851 dX5_goes_6) (fun _ => rfl) ?_
    refine xw_psh (v := (.int (0))) (show xm_Imp g Γ 9 (xi_psh (.int (0)) 10) from xs_iconst hΓ dX5_goes_9 (by decide)) ?_
    refine xw_mial (k := 1) (j := 0) (v := (s.2.2 1 0)) (show xm_Imp g Γ 10 (xi_ial 11) from xs_ial hG hΓ dX5_goes_10) hM (by decide) rfl rfl rfl ?_
    refine xw_ic (show xm_Imp g Γ 11 (xi_ic (fun x y => y ≤ x) 39 14) from xs_icmp_ge hΓ dX5_goes_11 (by decide)) (fun c => ?_) (fun c => ?_)
    · rw [if_pos c] at e
      obtain ⟨_, e, hp⟩ := xl_o_s e (hP1 _ hp)
      refine xw_ald (show xm_Imp g Γ 39 (xi_ald 0 40) from xs_aload_n hΓ dX5_goes_39) rfl ?_
      refine xw_mga (k := 1) (show xm_Imp g Γ 40 (xi_get 4 1 43) from xs_get hG hΓ (ci := 4) (kf := 1) rfl (Nat.le_of_ble_eq_true rfl) q2851 dX5_goes_40) (fun _ => rfl) ?_
      refine xw_psh (v := (.int (3))) (show xm_Imp g Γ 43 (xi_psh (.int (3)) 44) from xs_iconst hΓ dX5_goes_43 (by decide)) ?_
      refine xw_ald (show xm_Imp g Γ 44 (xi_ald 0 45) from xs_aload_n hΓ dX5_goes_44) rfl ?_
      refine xw_mga (k := 1) (show xm_Imp g Γ 45 (xi_get 4 1 48) from xs_get hG hΓ (ci := 4) (kf := 1) rfl (Nat.le_of_ble_eq_true rfl) q2851 dX5_goes_45) (fun _ => rfl) ?_
      refine xw_psh (v := (.int (3))) (show xm_Imp g Γ 48 (xi_psh (.int (3)) 49) from xs_iconst hΓ dX5_goes_48 (by decide)) ?_
      refine xw_mial (k := 1) (j := 3) (v := (s.2.2 1 3)) (show xm_Imp g Γ 49 (xi_ial 50) from xs_ial hG hΓ dX5_goes_49) hM (by decide) rfl rfl rfl ?_
      refine xw_psh (v := (.int (1))) (show xm_Imp g Γ 50 (xi_psh (.int (1)) 51) from xs_iconst hΓ dX5_goes_50 (by decide)) ?_
      refine xw_ii (show xm_Imp g Γ 51 (xi_ii (fun x y => x + y) 52) from xs_iadd hΓ dX5_goes_51) ?_
      refine xw_mias (k := 1) (j := 3) (show xm_Imp g Γ 52 (xi_ias 53) from xs_ias hG hΓ dX5_goes_52) hM (by decide) rfl rfl ?_
      exact xw_vret (show xm_Imp g Γ 53 (xi_vret _) from xs_return hΓ rfl dX5_goes_53) (hP0 _ (xl_fin e hp))
    · rw [if_neg c] at e
      refine xw_ald (show xm_Imp g Γ 14 (xi_ald 0 15) from xs_aload_n hΓ dX5_goes_14) rfl ?_
      refine xw_ild (show xm_Imp g Γ 15 (xi_ild 4 17) from xs_iload hΓ dX5_goes_15) rfl ?_
      obtain ⟨v1, e1, e⟩ := xo_b_s e
      refine xw_mu1 (show xm_Imp g Γ 17 (xi_vir g 4 M_X5_takesRow 2 1 20) from xs_invV hG hΓ k_X5_takesRow rfl (ci := 4) rfl q3018 q3020 qs51 dX5_goes_17) rfl (fun Q X hQ => K_X5_takesRow hG hM hB s.1 s.2 e1 hQ) ?_
      refine xw_ald (show xm_Imp g Γ 20 (xi_ald 0 21) from xs_aload_n hΓ dX5_goes_20) rfl ?_
      refine xw_ild (show xm_Imp g Γ 21 (xi_ild 1 22) from xs_iload_n hΓ dX5_goes_21) rfl ?_
      refine xw_ild (show xm_Imp g Γ 22 (xi_ild 2 23) from xs_iload_n hΓ dX5_goes_22) rfl ?_
      refine xw_ild (show xm_Imp g Γ 23 (xi_ild 3 24) from xs_iload_n hΓ dX5_goes_23) rfl ?_
      refine xw_mu3 (show xm_Imp g Γ 24 (xi_vir g 4 M_X5_does 4 3 27) from xs_invV hG hΓ k_X5_does rfl (ci := 4) rfl q3026 q3028 qs53 dX5_goes_24) rfl (fun Q X hQ => K_X5_does hG hM hB l1 l2 l3 v1 rfl hQ) ?_
      refine xw_ald (show xm_Imp g Γ 27 (xi_ald 0 28) from xs_aload_n hΓ dX5_goes_27) rfl ?_
      refine xw_ild (show xm_Imp g Γ 28 (xi_ild 4 30) from xs_iload hΓ dX5_goes_28) rfl ?_
      obtain ⟨v2, e1, e⟩ := xo_b_s e
      refine xw_mu1 (show xm_Imp g Γ 30 (xi_vir g 4 M_X5_laysRow 1 1 33) from xs_invV hG hΓ k_X5_laysRow rfl (ci := 4) rfl q3044 q3046 qs56 dX5_goes_30) rfl (fun Q X hQ => K_X5_laysRow hG hM hB s.1 (F_X5_does l1 l2 l3 v1) e1 hQ) ?_
      refine xw_inc (v := (1)) (ls' := [some (.ref m), some (.int l1), some (.int l2), some (.int l3), some (.int (s.1 + 1))]) (show xm_Imp g Γ 33 (xi_inc 4 (1) 36) from xs_iinc hΓ dX5_goes_33 (by decide) (Nat.le_of_ble_eq_true rfl)) rfl rfl ?_
      refine xw_goto (show xm_Imp g Γ 36 (xi_goto 3) from xs_goto hΓ dX5_goes_36 (by decide)) ?_
      have hq := xl_P_inl (hP1 _ (xl_fin e hp)); exact hq
  unfold F_X5_goes at e
  refine xw_psh (v := (.int (0))) (show xm_Imp g Γ 0 (xi_psh (.int (0)) 1) from xs_iconst hΓ dX5_goes_0 (by decide)) ?_
  refine xw_ist (ls' := [some (.ref m), some (.int p1), some (.int p2), some (.int p3), some (.int 0)]) (show xm_Imp g Γ 1 (xi_ist 4 3) from xs_istore hΓ dX5_goes_1 (Nat.le_of_ble_eq_true rfl)) rfl ?_
  exact hL_3 _ _ _ _ _ e hp
noncomputable def B_X5_trails_54 (l1 : Int32) (l2 : Int32) (l3 : Int32) (σ : xM_S) : Option (xM_S) :=
 xo_b (xa_ix 530 (230 + (3 * (σ.2 1 5)))) (fun j1 =>
 xo_b (xa_ix 530 ((230 + (3 * (σ.2 1 5))) + 1)) (fun j2 =>
 xo_b (xa_ix 530 ((230 + (3 * (σ.2 1 5))) + 2)) (fun j3 =>
 some (xM_a (xM_a (xM_a (xM_a σ 1 j1 l1) 1 j2 l2) 1 j3 l3) 1 5 (((xM_a (xM_a (xM_a σ 1 j1 l1) 1 j2 l2) 1 j3 l3).2 1 5) + 1)))))
noncomputable def D_X5_trails_16 (l1 : Int32) (l2 : Int32) (l3 : Int32) (s : Int32 × xM_S) : Option ((Int32 × xM_S) ⊕ (xM_S)) :=
 (if 467 ≤ s.1 then
 xl_o (B_X5_trails_54 l1 l2 l3 (xM_a s.2 1 5 79)) else
 xo_b (xa_ix 530 (s.1 + 3)) (fun j4 =>
 xo_b (xa_ix 530 s.1) (fun j5 =>
 some (Sum.inl (s.1 + 1, (xM_a s.2 1 j5 (s.2.2 1 j4)))))))
noncomputable def L_X5_trails_16 (l1 : Int32) (l2 : Int32) (l3 : Int32) (s : Int32 × xM_S) : Option (xM_S) := xl_loop (D_X5_trails_16 l1 l2 l3) s
noncomputable def F_X5_trails (p1 : Int32) (p2 : Int32) (p3 : Int32) (σ : xM_S) : Option (xM_S) :=
 (if (σ.2 1 5) = 80 then
 L_X5_trails_16 p1 p2 p3 (230, σ) else
 B_X5_trails_54 p1 p2 p3 σ)
set_option maxHeartbeats 4000000 in
theorem K_X5_trails {g : xm_G} (hG : xm_Gw g) {h0 : xm_H} {m : Nat} {ad : Nat → Nat} (hM : xM_ok h0 m ad) (hB : xk_B g h0) (p1 : Int32) (p2 : Int32) (p3 : Int32) (σ : xM_S) {o : xM_S} (e : F_X5_trails p1 p2 p3 σ = some o) {Q : xm_P} {X : xm_X} (hQ : Q none (xMp h0 m ad o)) : xm_Run g M_X5_trails 1 [.ref m, .int p1, .int p2, .int p3] (xMp h0 m ad σ) 0 0 Q X := by
  refine xm_Run.of pn_StringTableauModel (Nat.le_of_ble_eq_true rfl) (fun Γ hΓ => ?_)
  obtain ⟨P0, hP0, hp⟩ : ∃ P : xM_S → Prop, (∀ o, P o → Q none (xMp h0 m ad o)) ∧ P o := ⟨fun o => Q none (xMp h0 m ad o), fun _ h => h, hQ⟩
  clear hQ
  show xm_W g Γ 0 [some (.ref m), some (.int p1), some (.int p2), some (.int p3), none] [] (xMp h0 m ad σ) 0 0
  have hB_54 : ∀ (l1 : Int32) (l2 : Int32) (l3 : Int32) (σ : xM_S) (o : xM_S), B_X5_trails_54 l1 l2 l3 σ = some o → P0 o → xm_W g Γ 54 [some (.ref m), some (.int l1), some (.int l2), some (.int l3), none] [] (xMp h0 m ad σ) 0 0 := by
    intro l1 l2 l3 σ o e hp
    unfold B_X5_trails_54 at e
    refine xw_psh (v := (.int (230))) (show xm_Imp g Γ 54 (xi_psh (.int (230)) 57) from xs_sipush hΓ dX5_trails_54 (by decide)) ?_
    refine xw_psh (v := (.int (3))) (show xm_Imp g Γ 57 (xi_psh (.int (3)) 58) from xs_iconst hΓ dX5_trails_57 (by decide)) ?_
    refine xw_ald (show xm_Imp g Γ 58 (xi_ald 0 59) from xs_aload_n hΓ dX5_trails_58) rfl ?_
    refine xw_mga (k := 1) (show xm_Imp g Γ 59 (xi_get 4 1 62) from xs_get hG hΓ (ci := 4) (kf := 1) rfl (Nat.le_of_ble_eq_true rfl) q2851 dX5_trails_59) (fun _ => rfl) ?_
    refine xw_psh (v := (.int (5))) (show xm_Imp g Γ 62 (xi_psh (.int (5)) 63) from xs_iconst hΓ dX5_trails_62 (by decide)) ?_
    refine xw_mial (k := 1) (j := 5) (v := (σ.2 1 5)) (show xm_Imp g Γ 63 (xi_ial 64) from xs_ial hG hΓ dX5_trails_63) hM (by decide) rfl rfl rfl ?_
    refine xw_ii (show xm_Imp g Γ 64 (xi_ii (fun x y => x * y) 65) from xs_imul hΓ dX5_trails_64) ?_
    refine xw_ii (show xm_Imp g Γ 65 (xi_ii (fun x y => x + y) 66) from xs_iadd hΓ dX5_trails_65) ?_
    refine xw_ist (ls' := [some (.ref m), some (.int l1), some (.int l2), some (.int l3), some (.int (230 + (3 * (σ.2 1 5))))]) (show xm_Imp g Γ 66 (xi_ist 4 68) from xs_istore hΓ dX5_trails_66 (Nat.le_of_ble_eq_true rfl)) rfl ?_
    refine xw_ald (show xm_Imp g Γ 68 (xi_ald 0 69) from xs_aload_n hΓ dX5_trails_68) rfl ?_
    refine xw_mga (k := 1) (show xm_Imp g Γ 69 (xi_get 4 1 72) from xs_get hG hΓ (ci := 4) (kf := 1) rfl (Nat.le_of_ble_eq_true rfl) q2851 dX5_trails_69) (fun _ => rfl) ?_
    refine xw_ild (show xm_Imp g Γ 72 (xi_ild 4 74) from xs_iload hΓ dX5_trails_72) rfl ?_
    refine xw_ild (show xm_Imp g Γ 74 (xi_ild 1 75) from xs_iload_n hΓ dX5_trails_74) rfl ?_
    obtain ⟨j1, e1, e⟩ := xo_b_s e
    refine xw_mias (k := 1) (show xm_Imp g Γ 75 (xi_ias 76) from xs_ias hG hΓ dX5_trails_75) hM (by decide) rfl e1 ?_
    refine xw_ald (show xm_Imp g Γ 76 (xi_ald 0 77) from xs_aload_n hΓ dX5_trails_76) rfl ?_
    refine xw_mga (k := 1) (show xm_Imp g Γ 77 (xi_get 4 1 80) from xs_get hG hΓ (ci := 4) (kf := 1) rfl (Nat.le_of_ble_eq_true rfl) q2851 dX5_trails_77) (fun _ => rfl) ?_
    refine xw_ild (show xm_Imp g Γ 80 (xi_ild 4 82) from xs_iload hΓ dX5_trails_80) rfl ?_
    refine xw_psh (v := (.int (1))) (show xm_Imp g Γ 82 (xi_psh (.int (1)) 83) from xs_iconst hΓ dX5_trails_82 (by decide)) ?_
    refine xw_ii (show xm_Imp g Γ 83 (xi_ii (fun x y => x + y) 84) from xs_iadd hΓ dX5_trails_83) ?_
    refine xw_ild (show xm_Imp g Γ 84 (xi_ild 2 85) from xs_iload_n hΓ dX5_trails_84) rfl ?_
    obtain ⟨j2, e1, e⟩ := xo_b_s e
    refine xw_mias (k := 1) (show xm_Imp g Γ 85 (xi_ias 86) from xs_ias hG hΓ dX5_trails_85) hM (by decide) rfl e1 ?_
    refine xw_ald (show xm_Imp g Γ 86 (xi_ald 0 87) from xs_aload_n hΓ dX5_trails_86) rfl ?_
    refine xw_mga (k := 1) (show xm_Imp g Γ 87 (xi_get 4 1 90) from xs_get hG hΓ (ci := 4) (kf := 1) rfl (Nat.le_of_ble_eq_true rfl) q2851 dX5_trails_87) (fun _ => rfl) ?_
    refine xw_ild (show xm_Imp g Γ 90 (xi_ild 4 92) from xs_iload hΓ dX5_trails_90) rfl ?_
    refine xw_psh (v := (.int (2))) (show xm_Imp g Γ 92 (xi_psh (.int (2)) 93) from xs_iconst hΓ dX5_trails_92 (by decide)) ?_
    refine xw_ii (show xm_Imp g Γ 93 (xi_ii (fun x y => x + y) 94) from xs_iadd hΓ dX5_trails_93) ?_
    refine xw_ild (show xm_Imp g Γ 94 (xi_ild 3 95) from xs_iload_n hΓ dX5_trails_94) rfl ?_
    obtain ⟨j3, e1, e⟩ := xo_b_s e
    refine xw_mias (k := 1) (show xm_Imp g Γ 95 (xi_ias 96) from xs_ias hG hΓ dX5_trails_95) hM (by decide) rfl e1 ?_
    refine xw_ald (show xm_Imp g Γ 96 (xi_ald 0 97) from xs_aload_n hΓ dX5_trails_96) rfl ?_
    refine xw_mga (k := 1) (show xm_Imp g Γ 97 (xi_get 4 1 100) from xs_get hG hΓ (ci := 4) (kf := 1) rfl (Nat.le_of_ble_eq_true rfl) q2851 dX5_trails_97) (fun _ => rfl) ?_
    refine xw_psh (v := (.int (5))) (show xm_Imp g Γ 100 (xi_psh (.int (5)) 101) from xs_iconst hΓ dX5_trails_100 (by decide)) ?_
    refine xw_ald (show xm_Imp g Γ 101 (xi_ald 0 102) from xs_aload_n hΓ dX5_trails_101) rfl ?_
    refine xw_mga (k := 1) (show xm_Imp g Γ 102 (xi_get 4 1 105) from xs_get hG hΓ (ci := 4) (kf := 1) rfl (Nat.le_of_ble_eq_true rfl) q2851 dX5_trails_102) (fun _ => rfl) ?_
    refine xw_psh (v := (.int (5))) (show xm_Imp g Γ 105 (xi_psh (.int (5)) 106) from xs_iconst hΓ dX5_trails_105 (by decide)) ?_
    refine xw_mial (k := 1) (j := 5) (v := ((xM_a (xM_a (xM_a σ 1 j1 l1) 1 j2 l2) 1 j3 l3).2 1 5)) (show xm_Imp g Γ 106 (xi_ial 107) from xs_ial hG hΓ dX5_trails_106) hM (by decide) rfl rfl rfl ?_
    refine xw_psh (v := (.int (1))) (show xm_Imp g Γ 107 (xi_psh (.int (1)) 108) from xs_iconst hΓ dX5_trails_107 (by decide)) ?_
    refine xw_ii (show xm_Imp g Γ 108 (xi_ii (fun x y => x + y) 109) from xs_iadd hΓ dX5_trails_108) ?_
    refine xw_mias (k := 1) (j := 5) (show xm_Imp g Γ 109 (xi_ias 110) from xs_ias hG hΓ dX5_trails_109) hM (by decide) rfl rfl ?_
    exact xw_vret (show xm_Imp g Γ 110 (xi_vret _) from xs_return hΓ rfl dX5_trails_110) (hP0 _ (xl_fin e hp))
  have hL_16 : ∀ (l1 : Int32) (l2 : Int32) (l3 : Int32) (s : Int32 × xM_S) (o : xM_S), L_X5_trails_16 l1 l2 l3 s = some o → P0 o → xm_W g Γ 16 [some (.ref m), some (.int l1), some (.int l2), some (.int l3), some (.int s.1)] [] (xMp h0 m ad s.2) 0 0 := by
    intro l1 l2 l3
    refine xl_rule (WS := fun s : Int32 × xM_S => xm_W g Γ 16 [some (.ref m), some (.int l1), some (.int l2), some (.int l3), some (.int s.1)] [] (xMp h0 m ad s.2) 0 0) ?_
    intro s o e hp
    obtain ⟨P1, hP1, hp⟩ : ∃ P : (Int32 × xM_S) ⊕ (xM_S) → Prop, (∀ o, P o → xl_P (fun s : Int32 × xM_S => xm_W g Γ 16 [some (.ref m), some (.int l1), some (.int l2), some (.int l3), some (.int s.1)] [] (xMp h0 m ad s.2) 0 0) P0 o) ∧ P o := ⟨_, fun _ h => h, hp⟩
    unfold D_X5_trails_16 at e
    refine xw_ild (show xm_Imp g Γ 16 (xi_ild 4 18) from xs_iload hΓ dX5_trails_16) rfl ?_
    refine xw_psh (v := (.int (467))) (show xm_Imp g Γ 18 (xi_psh (.int (467)) 21) from xs_sipush hΓ dX5_trails_18 (by decide)) ?_
    refine xw_ic (show xm_Imp g Γ 21 (xi_ic (fun x y => y ≤ x) 46 24) from xs_icmp_ge hΓ dX5_trails_21 (by decide)) (fun c => ?_) (fun c => ?_)
    · rw [if_pos c] at e
      obtain ⟨_, e, hp⟩ := xl_o_s e (hP1 _ hp)
      refine xw_ald (show xm_Imp g Γ 46 (xi_ald 0 47) from xs_aload_n hΓ dX5_trails_46) rfl ?_
      refine xw_mga (k := 1) (show xm_Imp g Γ 47 (xi_get 4 1 50) from xs_get hG hΓ (ci := 4) (kf := 1) rfl (Nat.le_of_ble_eq_true rfl) q2851 dX5_trails_47) (fun _ => rfl) ?_
      refine xw_psh (v := (.int (5))) (show xm_Imp g Γ 50 (xi_psh (.int (5)) 51) from xs_iconst hΓ dX5_trails_50 (by decide)) ?_
      refine xw_psh (v := (.int (79))) (show xm_Imp g Γ 51 (xi_psh (.int (79)) 53) from xs_bipush hΓ dX5_trails_51 (by decide)) ?_
      refine xw_mias (k := 1) (j := 5) (show xm_Imp g Γ 53 (xi_ias 54) from xs_ias hG hΓ dX5_trails_53) hM (by decide) rfl rfl ?_
      exact xm_lx (hB_54 _ _ _ _ _ e hp) (And.intro rfl (And.intro rfl (And.intro rfl (And.intro rfl (trivial)))))
    · rw [if_neg c] at e
      refine xw_ald (show xm_Imp g Γ 24 (xi_ald 0 25) from xs_aload_n hΓ dX5_trails_24) rfl ?_
      refine xw_mga (k := 1) (show xm_Imp g Γ 25 (xi_get 4 1 28) from xs_get hG hΓ (ci := 4) (kf := 1) rfl (Nat.le_of_ble_eq_true rfl) q2851 dX5_trails_25) (fun _ => rfl) ?_
      refine xw_ild (show xm_Imp g Γ 28 (xi_ild 4 30) from xs_iload hΓ dX5_trails_28) rfl ?_
      refine xw_ald (show xm_Imp g Γ 30 (xi_ald 0 31) from xs_aload_n hΓ dX5_trails_30) rfl ?_
      refine xw_mga (k := 1) (show xm_Imp g Γ 31 (xi_get 4 1 34) from xs_get hG hΓ (ci := 4) (kf := 1) rfl (Nat.le_of_ble_eq_true rfl) q2851 dX5_trails_31) (fun _ => rfl) ?_
      refine xw_ild (show xm_Imp g Γ 34 (xi_ild 4 36) from xs_iload hΓ dX5_trails_34) rfl ?_
      refine xw_psh (v := (.int (3))) (show xm_Imp g Γ 36 (xi_psh (.int (3)) 37) from xs_iconst hΓ dX5_trails_36 (by decide)) ?_
      refine xw_ii (show xm_Imp g Γ 37 (xi_ii (fun x y => x + y) 38) from xs_iadd hΓ dX5_trails_37) ?_
      obtain ⟨j4, e1, e⟩ := xo_b_s e
      refine xw_mial (k := 1) (v := (s.2.2 1 j4)) (show xm_Imp g Γ 38 (xi_ial 39) from xs_ial hG hΓ dX5_trails_38) hM (by decide) rfl e1 rfl ?_
      obtain ⟨j5, e1, e⟩ := xo_b_s e
      refine xw_mias (k := 1) (show xm_Imp g Γ 39 (xi_ias 40) from xs_ias hG hΓ dX5_trails_39) hM (by decide) rfl e1 ?_
      refine xw_inc (v := (1)) (ls' := [some (.ref m), some (.int l1), some (.int l2), some (.int l3), some (.int (s.1 + 1))]) (show xm_Imp g Γ 40 (xi_inc 4 (1) 43) from xs_iinc hΓ dX5_trails_40 (by decide) (Nat.le_of_ble_eq_true rfl)) rfl rfl ?_
      refine xw_goto (show xm_Imp g Γ 43 (xi_goto 16) from xs_goto hΓ dX5_trails_43 (by decide)) ?_
      have hq := xl_P_inl (hP1 _ (xl_fin e hp)); exact hq
  unfold F_X5_trails at e
  refine xw_ald (show xm_Imp g Γ 0 (xi_ald 0 1) from xs_aload_n hΓ dX5_trails_0) rfl ?_
  refine xw_mga (k := 1) (show xm_Imp g Γ 1 (xi_get 4 1 4) from xs_get hG hΓ (ci := 4) (kf := 1) rfl (Nat.le_of_ble_eq_true rfl) q2851 dX5_trails_1) (fun _ => rfl) ?_
  refine xw_psh (v := (.int (5))) (show xm_Imp g Γ 4 (xi_psh (.int (5)) 5) from xs_iconst hΓ dX5_trails_4 (by decide)) ?_
  refine xw_mial (k := 1) (j := 5) (v := (σ.2 1 5)) (show xm_Imp g Γ 5 (xi_ial 6) from xs_ial hG hΓ dX5_trails_5) hM (by decide) rfl rfl rfl ?_
  refine xw_psh (v := (.int (80))) (show xm_Imp g Γ 6 (xi_psh (.int (80)) 8) from xs_bipush hΓ dX5_trails_6 (by decide)) ?_
  refine xw_ic (show xm_Imp g Γ 8 (xi_ic (fun x y => x = y) 11 54) from xs_icmp_ne hΓ dX5_trails_8 (by decide)) (fun c => ?_) (fun c => ?_)
  · rw [if_pos c] at e
    refine xw_psh (v := (.int (230))) (show xm_Imp g Γ 11 (xi_psh (.int (230)) 14) from xs_sipush hΓ dX5_trails_11 (by decide)) ?_
    refine xw_ist (ls' := [some (.ref m), some (.int p1), some (.int p2), some (.int p3), some (.int 230)]) (show xm_Imp g Γ 14 (xi_ist 4 16) from xs_istore hΓ dX5_trails_14 (Nat.le_of_ble_eq_true rfl)) rfl ?_
    exact hL_16 _ _ _ _ _ e hp
  · rw [if_neg c] at e
    exact hB_54 _ _ _ _ _ e hp
