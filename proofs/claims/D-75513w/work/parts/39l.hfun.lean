/-! METHODS ON KNOWN CELLS as functions (printed by gen/mkhfun.py) -/
set_option maxRecDepth 100000
noncomputable def F_X1_pushed (g : xm_G) (p0 : Nat) (p1 : Int32) (p2 : Int32) (p3 : Int32) (p4 : Int32) (p5 : Int32) (h : xm_H) (bc : Nat) (bs : Nat) (Q : Int32 → xm_H → Prop) (X : xm_X) : Prop :=
 xt_b (xh_is 0 h p0) (fun _ =>
 xt_c bc bs (fun m1 m2 => F_X1_checkMove g p0 p1 p2 p3 p4 p5 h m1 m2 (fun h3 =>
 xt_b (xh_is 0 h3 p0) (fun _ =>
 xt_c (bc - m1) (bs - m2) (fun m5 m6 => F_X1_moved g p0 p1 p2 p3 p4 0 h3 m5 m6 (fun v8 h7 =>
 xt_b v8 (fun a9 =>
 xt_b (xh_is 3 h7 a9) (fun _ =>
 xt_b (F_X4_property g a9 p5 h7) (fun v10 =>
 Q v10 h7)))) X))) X))
set_option maxHeartbeats 4000000 in
theorem K_X1_pushed {g : xm_G} (hG : xm_Gw g) (p0 : Nat) (p1 : Int32) (p2 : Int32) (p3 : Int32) (p4 : Int32) (p5 : Int32) (h : xm_H) (bc : Nat) (bs : Nat) {Q : Int32 → xm_H → Prop} {X : xm_X} (e : F_X1_pushed g p0 p1 p2 p3 p4 p5 h bc bs Q X) : xm_Run g M_X1_pushed 12 [.ref p0, .int p1, .int p2, .int p3, .int p4, .int p5] h bc bs (fun v h' => ∃ r, v = some (.int r) ∧ Q r h') X := by
  refine xm_Run.of pn_StringTableau (Nat.le_of_ble_eq_true rfl) (fun Γ hΓ => ?_)
  show xm_W g Γ 0 [some (.ref p0), some (.int p1), some (.int p2), some (.int p3), some (.int p4), some (.int p5)] [] h bc bs
  unfold F_X1_pushed at e
  refine xw_ald (show xm_Imp g Γ 0 (xi_ald 0 1) from xs_aload_n hΓ dX1_pushed_0) rfl ?_
  refine xw_ild (show xm_Imp g Γ 1 (xi_ild 1 2) from xs_iload_n hΓ dX1_pushed_1) rfl ?_
  refine xw_ild (show xm_Imp g Γ 2 (xi_ild 2 3) from xs_iload_n hΓ dX1_pushed_2) rfl ?_
  refine xw_ild (show xm_Imp g Γ 3 (xi_ild 3 4) from xs_iload_n hΓ dX1_pushed_3) rfl ?_
  refine xw_ild (show xm_Imp g Γ 4 (xi_ild 4 6) from xs_iload hΓ dX1_pushed_4) rfl ?_
  refine xw_ild (show xm_Imp g Γ 6 (xi_ild 5 8) from xs_iload hΓ dX1_pushed_6) rfl ?_
  obtain ⟨_, e0, e⟩ := e
  obtain ⟨m1, m2, ⟨em1, em2⟩, e⟩ := e
  refine xw_tXvu5 (o := (some p0)) (show xm_Imp g Γ 8 (xi_virX g 0 M_X1_checkMove 10 5 11 X) from xs_invVX hG hΓ k_X1_checkMove rfl rfl (ci := 0) rfl q2065 q2067 qs41 dX1_pushed_8) rfl rfl e0 em1 em2 (K_X1_checkMove hG p0 p1 p2 p3 p4 p5 _ _ _ e) (fun h3 e => ?_)
  refine xw_ald (show xm_Imp g Γ 11 (xi_ald 0 12) from xs_aload_n hΓ dX1_pushed_11) rfl ?_
  refine xw_ild (show xm_Imp g Γ 12 (xi_ild 1 13) from xs_iload_n hΓ dX1_pushed_12) rfl ?_
  refine xw_ild (show xm_Imp g Γ 13 (xi_ild 2 14) from xs_iload_n hΓ dX1_pushed_13) rfl ?_
  refine xw_ild (show xm_Imp g Γ 14 (xi_ild 3 15) from xs_iload_n hΓ dX1_pushed_14) rfl ?_
  refine xw_ild (show xm_Imp g Γ 15 (xi_ild 4 17) from xs_iload hΓ dX1_pushed_15) rfl ?_
  refine xw_psh (v := (.int (0))) (show xm_Imp g Γ 17 (xi_psh (.int (0)) 18) from xs_iconst hΓ dX1_pushed_17 (by decide)) ?_
  obtain ⟨_, e0, e⟩ := e
  obtain ⟨m5, m6, ⟨em1, em2⟩, e⟩ := e
  refine xw_tXvr5 (o := (some p0)) (show xm_Imp g Γ 18 (xi_virX g 0 M_X1_moved 11 5 21 X) from xs_invVX hG hΓ k_X1_moved rfl rfl (ci := 0) rfl q2069 q2071 qs42 dX1_pushed_18) rfl rfl e0 em1 em2 (K_X1_moved hG p0 p1 p2 p3 p4 0 _ _ _ e) (fun v8 h7 e => ?_)
  refine xw_ild (show xm_Imp g Γ 21 (xi_ild 5 23) from xs_iload hΓ dX1_pushed_21) rfl ?_
  obtain ⟨a9, ha9, e⟩ := e
  obtain ⟨_, e0, e⟩ := e
  obtain ⟨v10, e1, e⟩ := e
  refine xw_hv1 (o := v8) (show xm_Imp g Γ 23 (xi_vir g 3 M_X4_property 8 1 26) from xs_invV hG hΓ k_X4_property rfl (ci := 3) rfl q1978 q1979 q1980 dX1_pushed_23) (by simp [xm_stk, xv_cat, xc_int, xc_long, xc_float, xc_double, xc_ref]) ha9 e0 (fun Q X hQ => K_X4_property hG a9 p5 _ e1 hQ) ?_
  exact xw_iret (show xm_Imp g Γ 26 (xi_iret .int _) from xs_ireturn hΓ rfl dX1_pushed_26) (xn_int _) ⟨_, rfl, e⟩
noncomputable def F_X1_pulled (g : xm_G) (p0 : Nat) (p1 : Int32) (p2 : Int32) (p3 : Int32) (p4 : Int32) (p5 : Int32) (h : xm_H) (bc : Nat) (bs : Nat) (Q : Int32 → xm_H → Prop) (X : xm_X) : Prop :=
 xt_b (xh_is 0 h p0) (fun _ =>
 xt_c bc bs (fun m1 m2 => F_X1_checkMove g p0 p1 p2 p3 p4 p5 h m1 m2 (fun h3 =>
 xt_b (xh_is 0 h3 p0) (fun _ =>
 xt_c (bc - m1) (bs - m2) (fun m5 m6 => F_X1_moved g p0 p1 p2 p3 p4 1 h3 m5 m6 (fun v8 h7 =>
 xt_b v8 (fun a9 =>
 xt_b (xh_is 3 h7 a9) (fun _ =>
 xt_b (F_X4_property g a9 p5 h7) (fun v10 =>
 Q v10 h7)))) X))) X))
set_option maxHeartbeats 4000000 in
theorem K_X1_pulled {g : xm_G} (hG : xm_Gw g) (p0 : Nat) (p1 : Int32) (p2 : Int32) (p3 : Int32) (p4 : Int32) (p5 : Int32) (h : xm_H) (bc : Nat) (bs : Nat) {Q : Int32 → xm_H → Prop} {X : xm_X} (e : F_X1_pulled g p0 p1 p2 p3 p4 p5 h bc bs Q X) : xm_Run g M_X1_pulled 12 [.ref p0, .int p1, .int p2, .int p3, .int p4, .int p5] h bc bs (fun v h' => ∃ r, v = some (.int r) ∧ Q r h') X := by
  refine xm_Run.of pn_StringTableau (Nat.le_of_ble_eq_true rfl) (fun Γ hΓ => ?_)
  show xm_W g Γ 0 [some (.ref p0), some (.int p1), some (.int p2), some (.int p3), some (.int p4), some (.int p5)] [] h bc bs
  unfold F_X1_pulled at e
  refine xw_ald (show xm_Imp g Γ 0 (xi_ald 0 1) from xs_aload_n hΓ dX1_pulled_0) rfl ?_
  refine xw_ild (show xm_Imp g Γ 1 (xi_ild 1 2) from xs_iload_n hΓ dX1_pulled_1) rfl ?_
  refine xw_ild (show xm_Imp g Γ 2 (xi_ild 2 3) from xs_iload_n hΓ dX1_pulled_2) rfl ?_
  refine xw_ild (show xm_Imp g Γ 3 (xi_ild 3 4) from xs_iload_n hΓ dX1_pulled_3) rfl ?_
  refine xw_ild (show xm_Imp g Γ 4 (xi_ild 4 6) from xs_iload hΓ dX1_pulled_4) rfl ?_
  refine xw_ild (show xm_Imp g Γ 6 (xi_ild 5 8) from xs_iload hΓ dX1_pulled_6) rfl ?_
  obtain ⟨_, e0, e⟩ := e
  obtain ⟨m1, m2, ⟨em1, em2⟩, e⟩ := e
  refine xw_tXvu5 (o := (some p0)) (show xm_Imp g Γ 8 (xi_virX g 0 M_X1_checkMove 10 5 11 X) from xs_invVX hG hΓ k_X1_checkMove rfl rfl (ci := 0) rfl q2065 q2067 qs41 dX1_pulled_8) rfl rfl e0 em1 em2 (K_X1_checkMove hG p0 p1 p2 p3 p4 p5 _ _ _ e) (fun h3 e => ?_)
  refine xw_ald (show xm_Imp g Γ 11 (xi_ald 0 12) from xs_aload_n hΓ dX1_pulled_11) rfl ?_
  refine xw_ild (show xm_Imp g Γ 12 (xi_ild 1 13) from xs_iload_n hΓ dX1_pulled_12) rfl ?_
  refine xw_ild (show xm_Imp g Γ 13 (xi_ild 2 14) from xs_iload_n hΓ dX1_pulled_13) rfl ?_
  refine xw_ild (show xm_Imp g Γ 14 (xi_ild 3 15) from xs_iload_n hΓ dX1_pulled_14) rfl ?_
  refine xw_ild (show xm_Imp g Γ 15 (xi_ild 4 17) from xs_iload hΓ dX1_pulled_15) rfl ?_
  refine xw_psh (v := (.int (1))) (show xm_Imp g Γ 17 (xi_psh (.int (1)) 18) from xs_iconst hΓ dX1_pulled_17 (by decide)) ?_
  obtain ⟨_, e0, e⟩ := e
  obtain ⟨m5, m6, ⟨em1, em2⟩, e⟩ := e
  refine xw_tXvr5 (o := (some p0)) (show xm_Imp g Γ 18 (xi_virX g 0 M_X1_moved 11 5 21 X) from xs_invVX hG hΓ k_X1_moved rfl rfl (ci := 0) rfl q2069 q2071 qs42 dX1_pulled_18) rfl rfl e0 em1 em2 (K_X1_moved hG p0 p1 p2 p3 p4 1 _ _ _ e) (fun v8 h7 e => ?_)
  refine xw_ild (show xm_Imp g Γ 21 (xi_ild 5 23) from xs_iload hΓ dX1_pulled_21) rfl ?_
  obtain ⟨a9, ha9, e⟩ := e
  obtain ⟨_, e0, e⟩ := e
  obtain ⟨v10, e1, e⟩ := e
  refine xw_hv1 (o := v8) (show xm_Imp g Γ 23 (xi_vir g 3 M_X4_property 8 1 26) from xs_invV hG hΓ k_X4_property rfl (ci := 3) rfl q1978 q1979 q1980 dX1_pulled_23) (by simp [xm_stk, xv_cat, xc_int, xc_long, xc_float, xc_double, xc_ref]) ha9 e0 (fun Q X hQ => K_X4_property hG a9 p5 _ e1 hQ) ?_
  exact xw_iret (show xm_Imp g Γ 26 (xi_iret .int _) from xs_ireturn hΓ rfl dX1_pulled_26) (xn_int _) ⟨_, rfl, e⟩
noncomputable def D_X1_partner_33 (g : xm_G) (l0 : Nat) (l1 : Int32) (l2 : Int32) (l3 : Int32) (l4 : Int32) (k24 : Int32 × xm_H × Nat × Nat → Prop) (Q : Int32 → xm_H → Prop) (X : xm_X) (k33 : Int32 × xm_H × Nat × Nat → Prop) (s : Int32 × xm_H × Nat × Nat) : Prop :=
 (if l3 ≤ s.1 then
 k24 ((l4 + 1), s.2.1, s.2.2.1, s.2.2.2) else
 xt_b (xh_fr [(0, 0)] s.2.1 l0) (fun v10 =>
 xt_b v10 (fun a11 =>
 xt_b (xh_fr [(1, 0)] s.2.1 a11) (fun v12 =>
 xt_b v12 (fun a13 =>
 xt_b (xh_is 2 s.2.1 a13) (fun _ =>
 xt_b (F_X3_against g a13 l4 s.1 s.2.1) (fun v14 =>
 (if v14 = (1 <<< (l1 &&& 31)) then
 (if l2 = 0 then
 Q l4 s.2.1 else
 Q s.1 s.2.1) else
 k33 ((s.1 + 1), s.2.1, s.2.2.1, s.2.2.2)))))))))
noncomputable def L_X1_partner_33 (g : xm_G) (l0 : Nat) (l1 : Int32) (l2 : Int32) (l3 : Int32) (l4 : Int32) (k24 : Int32 × xm_H × Nat × Nat → Prop) (Q : Int32 → xm_H → Prop) (X : xm_X) (s : Int32 × xm_H × Nat × Nat) : Prop := xt_loop (D_X1_partner_33 g l0 l1 l2 l3 l4 k24 Q X) s
noncomputable def D_X1_partner_24 (g : xm_G) (l0 : Nat) (l1 : Int32) (l2 : Int32) (l3 : Int32) (Q : Int32 → xm_H → Prop) (X : xm_X) (k24 : Int32 × xm_H × Nat × Nat → Prop) (s : Int32 × xm_H × Nat × Nat) : Prop :=
 (if l3 ≤ s.1 then
 Q (-1) s.2.1 else
 L_X1_partner_33 g l0 l1 l2 l3 s.1 k24 Q X (0, s.2.1, s.2.2.1, s.2.2.2))
noncomputable def L_X1_partner_24 (g : xm_G) (l0 : Nat) (l1 : Int32) (l2 : Int32) (l3 : Int32) (Q : Int32 → xm_H → Prop) (X : xm_X) (s : Int32 × xm_H × Nat × Nat) : Prop := xt_loop (D_X1_partner_24 g l0 l1 l2 l3 Q X) s
noncomputable def F_X1_partner (g : xm_G) (p0 : Nat) (p1 : Int32) (p2 : Int32) (h : xm_H) (bc : Nat) (bs : Nat) (Q : Int32 → xm_H → Prop) (X : xm_X) : Prop :=
 xt_b (xh_is 0 h p0) (fun _ =>
 xt_c bc bs (fun m1 m2 => F_X1_checkQubit g p0 p1 h m1 m2 (fun h3 =>
 xt_c (bc - m1) (bs - m2) (fun m5 m6 => F_X1_checkIndex g (F_X1_inRange p2 0 1) h3 m5 m6 (fun h7 =>
 xt_b (xh_is 0 h7 p0) (fun _ =>
 xt_b (F_X1_qubits g p0 h7) (fun v9 =>
 L_X1_partner_24 g p0 p1 p2 (1 <<< (v9 &&& 31)) Q X (0, h7, ((bc - m1) - m5), ((bs - m2) - m6))))) X)) X))
set_option maxHeartbeats 4000000 in
theorem K_X1_partner {g : xm_G} (hG : xm_Gw g) (p0 : Nat) (p1 : Int32) (p2 : Int32) (h : xm_H) (bc : Nat) (bs : Nat) {Q : Int32 → xm_H → Prop} {X : xm_X} (e : F_X1_partner g p0 p1 p2 h bc bs Q X) : xm_Run g M_X1_partner 10 [.ref p0, .int p1, .int p2] h bc bs (fun v h' => ∃ r, v = some (.int r) ∧ Q r h') X := by
  refine xm_Run.of pn_StringTableau (Nat.le_of_ble_eq_true rfl) (fun Γ hΓ => ?_)
  show xm_W g Γ 0 [some (.ref p0), some (.int p1), some (.int p2), none, none, none] [] h bc bs
  have hL_24 : ∀ (l0 : Nat) (l1 : Int32) (l2 : Int32) (l3 : Int32) (s : Int32 × xm_H × Nat × Nat), L_X1_partner_24 g l0 l1 l2 l3 Q X s → xm_W g Γ 24 [some (.ref l0), some (.int l1), some (.int l2), some (.int l3), some (.int s.1), none] [] s.2.1 s.2.2.1 s.2.2.2 := by
    intro l0 l1 l2 l3
    refine xt_rule (WS := fun s : Int32 × xm_H × Nat × Nat => xm_W g Γ 24 [some (.ref l0), some (.int l1), some (.int l2), some (.int l3), some (.int s.1), none] [] s.2.1 s.2.2.1 s.2.2.2) ?_
    intro k24 hk24 s e
    have hL_33 : ∀ (l4 : Int32) (s : Int32 × xm_H × Nat × Nat), L_X1_partner_33 g l0 l1 l2 l3 l4 k24 Q X s → xm_W g Γ 33 [some (.ref l0), some (.int l1), some (.int l2), some (.int l3), some (.int l4), some (.int s.1)] [] s.2.1 s.2.2.1 s.2.2.2 := by
      intro l4
      refine xt_rule (WS := fun s : Int32 × xm_H × Nat × Nat => xm_W g Γ 33 [some (.ref l0), some (.int l1), some (.int l2), some (.int l3), some (.int l4), some (.int s.1)] [] s.2.1 s.2.2.1 s.2.2.2) ?_
      intro k33 hk33 s e
      unfold D_X1_partner_33 at e
      refine xw_ild (show xm_Imp g Γ 33 (xi_ild 5 35) from xs_iload hΓ dX1_partner_33) rfl ?_
      refine xw_ild (show xm_Imp g Γ 35 (xi_ild 3 36) from xs_iload_n hΓ dX1_partner_35) rfl ?_
      refine xw_ic (show xm_Imp g Γ 36 (xi_ic (fun x y => y ≤ x) 77 39) from xs_icmp_ge hΓ dX1_partner_36 (by decide)) (fun c => ?_) (fun c => ?_)
      · rw [if_pos c] at e
        refine xw_inc (v := (1)) (ls' := [some (.ref l0), some (.int l1), some (.int l2), some (.int l3), some (.int (l4 + 1)), some (.int s.1)]) (show xm_Imp g Γ 77 (xi_inc 4 (1) 80) from xs_iinc hΓ dX1_partner_77 (by decide) (Nat.le_of_ble_eq_true rfl)) rfl rfl ?_
        refine xw_goto (show xm_Imp g Γ 80 (xi_goto 24) from xs_goto hΓ dX1_partner_80 (by decide)) ?_
        have hq := hk24 _ e; exact xm_lx (hq) (And.intro rfl (And.intro rfl (And.intro rfl (And.intro rfl (And.intro rfl (trivial))))))
      · rw [if_neg c] at e
        refine xw_ald (show xm_Imp g Γ 39 (xi_ald 0 40) from xs_aload_n hΓ dX1_partner_39) rfl ?_
        obtain ⟨v10, e1, e⟩ := e
        refine xw_gr1 (o := (some l0)) (show xm_Imp g Γ 40 (xi_get 0 0 43) from xs_get hG hΓ (ci := 0) (kf := 0) rfl (Nat.le_of_ble_eq_true rfl) q343 dX1_partner_40) rfl e1 ?_
        obtain ⟨a11, ha11, e⟩ := e
        obtain ⟨v12, e1, e⟩ := e
        refine xw_gr1 (o := v10) (show xm_Imp g Γ 43 (xi_get 1 0 46) from xs_getN hG hΓ (ci := 1) (kf := 0) rfl (Nat.le_of_ble_eq_true rfl) q276 dX1_partner_43) ha11 e1 ?_
        refine xw_ild (show xm_Imp g Γ 46 (xi_ild 4 48) from xs_iload hΓ dX1_partner_46) rfl ?_
        refine xw_ild (show xm_Imp g Γ 48 (xi_ild 5 50) from xs_iload hΓ dX1_partner_48) rfl ?_
        obtain ⟨a13, ha13, e⟩ := e
        obtain ⟨_, e0, e⟩ := e
        obtain ⟨v14, e1, e⟩ := e
        refine xw_hv2 (o := v12) (show xm_Imp g Γ 50 (xi_vir g 2 M_X3_against 4 2 53) from xs_invV hG hΓ k_X3_against rfl (ci := 2) rfl q2023 q1199 q1200 dX1_partner_50) (by simp [xm_stk, xv_cat, xc_int, xc_long, xc_float, xc_double, xc_ref]) ha13 e0 (fun Q X hQ => K_X3_against hG a13 l4 s.1 _ e1 hQ) ?_
        refine xw_psh (v := (.int (1))) (show xm_Imp g Γ 53 (xi_psh (.int (1)) 54) from xs_iconst hΓ dX1_partner_53 (by decide)) ?_
        refine xw_ild (show xm_Imp g Γ 54 (xi_ild 1 55) from xs_iload_n hΓ dX1_partner_54) rfl ?_
        refine xw_ii (show xm_Imp g Γ 55 (xi_ii (fun x y => x <<< (y &&& 31)) 56) from xs_ishl hΓ dX1_partner_55) ?_
        refine xw_ic (show xm_Imp g Γ 56 (xi_ic (fun x y => x = y) 59 71) from xs_icmp_ne hΓ dX1_partner_56 (by decide)) (fun c => ?_) (fun c => ?_)
        · rw [if_pos c] at e
          refine xw_ild (show xm_Imp g Γ 59 (xi_ild 2 60) from xs_iload_n hΓ dX1_partner_59) rfl ?_
          refine xw_if (show xm_Imp g Γ 60 (xi_if (fun x => x = 0) 63 68) from xs_if_ne hΓ dX1_partner_60 (by decide)) (fun c => ?_) (fun c => ?_)
          · rw [if_pos c] at e
            refine xw_ild (show xm_Imp g Γ 63 (xi_ild 4 65) from xs_iload hΓ dX1_partner_63) rfl ?_
            refine xw_goto (show xm_Imp g Γ 65 (xi_goto 70) from xs_goto hΓ dX1_partner_65 (by decide)) ?_
            exact xw_iret (show xm_Imp g Γ 70 (xi_iret .int _) from xs_ireturn hΓ rfl dX1_partner_70) (xn_int _) ⟨_, rfl, e⟩
          · rw [if_neg c] at e
            refine xw_ild (show xm_Imp g Γ 68 (xi_ild 5 70) from xs_iload hΓ dX1_partner_68) rfl ?_
            exact xw_iret (show xm_Imp g Γ 70 (xi_iret .int _) from xs_ireturn hΓ rfl dX1_partner_70) (xn_int _) ⟨_, rfl, e⟩
        · rw [if_neg c] at e
          refine xw_inc (v := (1)) (ls' := [some (.ref l0), some (.int l1), some (.int l2), some (.int l3), some (.int l4), some (.int (s.1 + 1))]) (show xm_Imp g Γ 71 (xi_inc 5 (1) 74) from xs_iinc hΓ dX1_partner_71 (by decide) (Nat.le_of_ble_eq_true rfl)) rfl rfl ?_
          refine xw_goto (show xm_Imp g Γ 74 (xi_goto 33) from xs_goto hΓ dX1_partner_74 (by decide)) ?_
          have hq := hk33 _ e; exact hq
    unfold D_X1_partner_24 at e
    refine xw_ild (show xm_Imp g Γ 24 (xi_ild 4 26) from xs_iload hΓ dX1_partner_24) rfl ?_
    refine xw_ild (show xm_Imp g Γ 26 (xi_ild 3 27) from xs_iload_n hΓ dX1_partner_26) rfl ?_
    refine xw_ic (show xm_Imp g Γ 27 (xi_ic (fun x y => y ≤ x) 83 30) from xs_icmp_ge hΓ dX1_partner_27 (by decide)) (fun c => ?_) (fun c => ?_)
    · rw [if_pos c] at e
      refine xw_psh (v := (.int (-1))) (show xm_Imp g Γ 83 (xi_psh (.int (-1)) 84) from xs_iconst hΓ dX1_partner_83 (by decide)) ?_
      exact xw_iret (show xm_Imp g Γ 84 (xi_iret .int _) from xs_ireturn hΓ rfl dX1_partner_84) (xn_int _) ⟨_, rfl, e⟩
    · rw [if_neg c] at e
      refine xw_psh (v := (.int (0))) (show xm_Imp g Γ 30 (xi_psh (.int (0)) 31) from xs_iconst hΓ dX1_partner_30 (by decide)) ?_
      refine xw_ist (ls' := [some (.ref l0), some (.int l1), some (.int l2), some (.int l3), some (.int s.1), some (.int 0)]) (show xm_Imp g Γ 31 (xi_ist 5 33) from xs_istore hΓ dX1_partner_31 (Nat.le_of_ble_eq_true rfl)) rfl ?_
      exact hL_33 _ _ e
  unfold F_X1_partner at e
  refine xw_ald (show xm_Imp g Γ 0 (xi_ald 0 1) from xs_aload_n hΓ dX1_partner_0) rfl ?_
  refine xw_ild (show xm_Imp g Γ 1 (xi_ild 1 2) from xs_iload_n hΓ dX1_partner_1) rfl ?_
  obtain ⟨_, e0, e⟩ := e
  obtain ⟨m1, m2, ⟨em1, em2⟩, e⟩ := e
  refine xw_tXvu1 (o := (some p0)) (show xm_Imp g Γ 2 (xi_virX g 0 M_X1_checkQubit 9 1 5 X) from xs_invVX hG hΓ k_X1_checkQubit rfl rfl (ci := 0) rfl q1863 q1865 qs37 dX1_partner_2) rfl rfl e0 em1 em2 (K_X1_checkQubit hG p0 p1 _ _ _ e) (fun h3 e => ?_)
  refine xw_ild (show xm_Imp g Γ 5 (xi_ild 2 6) from xs_iload_n hΓ dX1_partner_5) rfl ?_
  refine xw_psh (v := (.int (0))) (show xm_Imp g Γ 6 (xi_psh (.int (0)) 7) from xs_iconst hΓ dX1_partner_6 (by decide)) ?_
  refine xw_psh (v := (.int (1))) (show xm_Imp g Γ 7 (xi_psh (.int (1)) 8) from xs_iconst hΓ dX1_partner_7 (by decide)) ?_
  refine xw_sv3 (show xm_Imp g Γ 8 (xi_inv g M_X1_inRange 1 3 11) from xs_invS hG hΓ k_X1_inRange rfl q387 q388 dX1_partner_8) rfl (fun Q X hQ => K_X1_inRange hG p2 0 1 rfl hQ) ?_
  obtain ⟨m5, m6, ⟨em1, em2⟩, e⟩ := e
  refine xw_tXsu1 (show xm_Imp g Γ 11 (xi_invX g M_X1_checkIndex 8 1 14 X) from xs_invSX hG hΓ k_X1_checkIndex rfl rfl q1837 q1838 dX1_partner_11) rfl em1 em2 (K_X1_checkIndex hG (F_X1_inRange p2 0 1) _ _ _ e) (fun h7 e => ?_)
  refine xw_psh (v := (.int (1))) (show xm_Imp g Γ 14 (xi_psh (.int (1)) 15) from xs_iconst hΓ dX1_partner_14 (by decide)) ?_
  refine xw_ald (show xm_Imp g Γ 15 (xi_ald 0 16) from xs_aload_n hΓ dX1_partner_15) rfl ?_
  obtain ⟨_, e0, e⟩ := e
  obtain ⟨v9, e1, e⟩ := e
  refine xw_hv0 (o := (some p0)) (show xm_Imp g Γ 16 (xi_vir g 0 M_X1_qubits 1 0 19) from xs_invV hG hΓ k_X1_qubits rfl (ci := 0) rfl q1139 q1141 qs20 dX1_partner_16) rfl rfl e0 (fun Q X hQ => K_X1_qubits hG p0 _ e1 hQ) ?_
  refine xw_ii (show xm_Imp g Γ 19 (xi_ii (fun x y => x <<< (y &&& 31)) 20) from xs_ishl hΓ dX1_partner_19) ?_
  refine xw_ist (ls' := [some (.ref p0), some (.int p1), some (.int p2), some (.int (1 <<< (v9 &&& 31))), none, none]) (show xm_Imp g Γ 20 (xi_ist 3 21) from xs_istore_n hΓ dX1_partner_20 (Nat.le_of_ble_eq_true rfl)) rfl ?_
  refine xw_psh (v := (.int (0))) (show xm_Imp g Γ 21 (xi_psh (.int (0)) 22) from xs_iconst hΓ dX1_partner_21 (by decide)) ?_
  refine xw_ist (ls' := [some (.ref p0), some (.int p1), some (.int p2), some (.int (1 <<< (v9 &&& 31))), some (.int 0), none]) (show xm_Imp g Γ 22 (xi_ist 4 24) from xs_istore hΓ dX1_partner_22 (Nat.le_of_ble_eq_true rfl)) rfl ?_
  exact hL_24 _ _ _ _ _ e
noncomputable def F_X1_entropy (g : xm_G) (p0 : Nat) (p1 : Int32) (h : xm_H) (bc : Nat) (bs : Nat) (Q : Int32 → xm_H → Prop) (X : xm_X) : Prop :=
 xt_b (xh_is 0 h p0) (fun _ =>
 xt_c bc bs (fun m1 m2 => F_X1_checkMasks g p0 p1 0 h m1 m2 (fun h3 =>
 xt_b (xh_fr [(0, 0)] h3 p0) (fun v5 =>
 xt_b v5 (fun a6 =>
 xt_b (xh_fr [(1, 0)] h3 a6) (fun v7 =>
 xt_b v7 (fun a8 =>
 xt_b (xh_is 2 h3 a8) (fun _ =>
 xt_c (bc - m1) (bs - m2) (fun m9 m10 => F_X3_supports g a8 h3 m9 m10 (fun v12 h11 =>
 xt_b (F_X1_entropyBy g v12 p1 h11) (fun v13 =>
 Q v13 h11))))))))) X))
set_option maxHeartbeats 4000000 in
theorem K_X1_entropy {g : xm_G} (hG : xm_Gw g) (p0 : Nat) (p1 : Int32) (h : xm_H) (bc : Nat) (bs : Nat) {Q : Int32 → xm_H → Prop} {X : xm_X} (e : F_X1_entropy g p0 p1 h bc bs Q X) : xm_Run g M_X1_entropy 11 [.ref p0, .int p1] h bc bs (fun v h' => ∃ r, v = some (.int r) ∧ Q r h') X := by
  refine xm_Run.of pn_StringTableau (Nat.le_of_ble_eq_true rfl) (fun Γ hΓ => ?_)
  show xm_W g Γ 0 [some (.ref p0), some (.int p1)] [] h bc bs
  unfold F_X1_entropy at e
  refine xw_ald (show xm_Imp g Γ 0 (xi_ald 0 1) from xs_aload_n hΓ dX1_entropy_0) rfl ?_
  refine xw_ild (show xm_Imp g Γ 1 (xi_ild 1 2) from xs_iload_n hΓ dX1_entropy_1) rfl ?_
  refine xw_psh (v := (.int (0))) (show xm_Imp g Γ 2 (xi_psh (.int (0)) 3) from xs_iconst hΓ dX1_entropy_2 (by decide)) ?_
  obtain ⟨_, e0, e⟩ := e
  obtain ⟨m1, m2, ⟨em1, em2⟩, e⟩ := e
  refine xw_tXvu2 (o := (some p0)) (show xm_Imp g Γ 3 (xi_virX g 0 M_X1_checkMasks 9 2 6 X) from xs_invVX hG hΓ k_X1_checkMasks rfl rfl (ci := 0) rfl q1885 q1887 qs38 dX1_entropy_3) rfl rfl e0 em1 em2 (K_X1_checkMasks hG p0 p1 0 _ _ _ e) (fun h3 e => ?_)
  refine xw_ald (show xm_Imp g Γ 6 (xi_ald 0 7) from xs_aload_n hΓ dX1_entropy_6) rfl ?_
  obtain ⟨v5, e1, e⟩ := e
  refine xw_gr1 (o := (some p0)) (show xm_Imp g Γ 7 (xi_get 0 0 10) from xs_get hG hΓ (ci := 0) (kf := 0) rfl (Nat.le_of_ble_eq_true rfl) q343 dX1_entropy_7) rfl e1 ?_
  obtain ⟨a6, ha6, e⟩ := e
  obtain ⟨v7, e1, e⟩ := e
  refine xw_gr1 (o := v5) (show xm_Imp g Γ 10 (xi_get 1 0 13) from xs_getN hG hΓ (ci := 1) (kf := 0) rfl (Nat.le_of_ble_eq_true rfl) q276 dX1_entropy_10) ha6 e1 ?_
  obtain ⟨a8, ha8, e⟩ := e
  obtain ⟨_, e0, e⟩ := e
  obtain ⟨m9, m10, ⟨em1, em2⟩, e⟩ := e
  refine xw_tvr0 (o := v7) (show xm_Imp g Γ 13 (xi_vir g 2 M_X3_supports 10 0 16) from xs_invV hG hΓ k_X3_supports rfl (ci := 2) rfl q1668 q1669 q1670 dX1_entropy_13) (by simp [xm_stk, xv_cat, xc_int, xc_long, xc_float, xc_double, xc_ref]) ha8 e0 em1 em2 (K_X3_supports hG a8 _ _ _ e) (fun v12 h11 e => ?_)
  refine xw_ild (show xm_Imp g Γ 16 (xi_ild 1 17) from xs_iload_n hΓ dX1_entropy_16) rfl ?_
  obtain ⟨v13, e1, e⟩ := e
  refine xw_sv2 (show xm_Imp g Γ 17 (xi_inv g M_X1_entropyBy 2 2 20) from xs_invS hG hΓ k_X1_entropyBy rfl q1677 q1678 dX1_entropy_17) rfl (fun Q X hQ => K_X1_entropyBy hG v12 p1 _ e1 hQ) ?_
  exact xw_iret (show xm_Imp g Γ 20 (xi_iret .int _) from xs_ireturn hΓ rfl dX1_entropy_20) (xn_int _) ⟨_, rfl, e⟩
noncomputable def B_X1_block_69 (g : xm_G) (l1 : Int32) (l2 : Option Nat) (l3 : Int32) (l4 : Int32) (h : xm_H) (bc : Nat) (bs : Nat) (k28 : Int32 × Int32 × xm_H × Nat × Nat → Prop) (Q : Int32 → xm_H → Prop) (X : xm_X) : Prop :=
 k28 (l3, (l4 + (-1)), h, bc, bs)
noncomputable def D_X1_block_28 (g : xm_G) (l1 : Int32) (l2 : Option Nat) (Q : Int32 → xm_H → Prop) (X : xm_X) (k28 : Int32 × Int32 × xm_H × Nat × Nat → Prop) (s : Int32 × Int32 × xm_H × Nat × Nat) : Prop :=
 (if s.2.1 ≤ 0 then
 Q s.1 s.2.2.1 else
 (if (F_X1_has s.2.1 l1) = 0 then
 B_X1_block_69 g l1 l2 s.1 s.2.1 s.2.2.1 s.2.2.2.1 s.2.2.2.2 k28 Q X else
 xt_b (F_X1_entropyBy g l2 s.2.1 s.2.2.1) (fun v14 =>
 B_X1_block_69 g l1 l2 (if v14 = 0 then (if (F_J17_bitCount s.1) < (F_J17_bitCount s.2.1) then s.1 else s.2.1) else s.1) s.2.1 s.2.2.1 s.2.2.2.1 s.2.2.2.2 k28 Q X)))
noncomputable def L_X1_block_28 (g : xm_G) (l1 : Int32) (l2 : Option Nat) (Q : Int32 → xm_H → Prop) (X : xm_X) (s : Int32 × Int32 × xm_H × Nat × Nat) : Prop := xt_loop (D_X1_block_28 g l1 l2 Q X) s
noncomputable def F_X1_block (g : xm_G) (p0 : Nat) (p1 : Int32) (h : xm_H) (bc : Nat) (bs : Nat) (Q : Int32 → xm_H → Prop) (X : xm_X) : Prop :=
 xt_b (xh_is 0 h p0) (fun _ =>
 xt_c bc bs (fun m1 m2 => F_X1_checkQubit g p0 p1 h m1 m2 (fun h3 =>
 xt_b (xh_fr [(0, 0)] h3 p0) (fun v5 =>
 xt_b v5 (fun a6 =>
 xt_b (xh_fr [(1, 0)] h3 a6) (fun v7 =>
 xt_b v7 (fun a8 =>
 xt_b (xh_is 2 h3 a8) (fun _ =>
 xt_c (bc - m1) (bs - m2) (fun m9 m10 => F_X3_supports g a8 h3 m9 m10 (fun v12 h11 =>
 xt_b (xh_is 0 h11 p0) (fun _ =>
 xt_b (F_X1_qubits g p0 h11) (fun v13 =>
 L_X1_block_28 g p1 v12 Q X (((1 <<< (v13 &&& 31)) - 1), ((1 <<< (v13 &&& 31)) - 1), h11, ((bc - m1) - m9), ((bs - m2) - m10)))))))))))) X))
set_option maxHeartbeats 4000000 in
theorem K_X1_block {g : xm_G} (hG : xm_Gw g) (p0 : Nat) (p1 : Int32) (h : xm_H) (bc : Nat) (bs : Nat) {Q : Int32 → xm_H → Prop} {X : xm_X} (e : F_X1_block g p0 p1 h bc bs Q X) : xm_Run g M_X1_block 11 [.ref p0, .int p1] h bc bs (fun v h' => ∃ r, v = some (.int r) ∧ Q r h') X := by
  refine xm_Run.of pn_StringTableau (Nat.le_of_ble_eq_true rfl) (fun Γ hΓ => ?_)
  show xm_W g Γ 0 [some (.ref p0), some (.int p1), none, none, none] [] h bc bs
  have hL_28 : ∀ (l1 : Int32) (l2 : Option Nat) (s : Int32 × Int32 × xm_H × Nat × Nat), L_X1_block_28 g l1 l2 Q X s → xm_W g Γ 28 [none, some (.int l1), some (va_rf l2), some (.int s.1), some (.int s.2.1)] [] s.2.2.1 s.2.2.2.1 s.2.2.2.2 := by
    intro l1 l2
    refine xt_rule (WS := fun s : Int32 × Int32 × xm_H × Nat × Nat => xm_W g Γ 28 [none, some (.int l1), some (va_rf l2), some (.int s.1), some (.int s.2.1)] [] s.2.2.1 s.2.2.2.1 s.2.2.2.2) ?_
    intro k28 hk28 s e
    have hB_69 : ∀ (l3 : Int32) (l4 : Int32) (h : xm_H) (bc : Nat) (bs : Nat), B_X1_block_69 g l1 l2 l3 l4 h bc bs k28 Q X → xm_W g Γ 69 [none, some (.int l1), some (va_rf l2), some (.int l3), some (.int l4)] [] h bc bs := by
      intro l3 l4 h bc bs e
      unfold B_X1_block_69 at e
      refine xw_inc (v := (-1)) (ls' := [none, some (.int l1), some (va_rf l2), some (.int l3), some (.int (l4 + (-1)))]) (show xm_Imp g Γ 69 (xi_inc 4 (-1) 72) from xs_iinc hΓ dX1_block_69 (by decide) (Nat.le_of_ble_eq_true rfl)) rfl rfl ?_
      refine xw_goto (show xm_Imp g Γ 72 (xi_goto 28) from xs_goto hΓ dX1_block_72 (by decide)) ?_
      have hq := hk28 _ e; exact hq
    unfold D_X1_block_28 at e
    refine xw_ild (show xm_Imp g Γ 28 (xi_ild 4 30) from xs_iload hΓ dX1_block_28) rfl ?_
    refine xw_if (show xm_Imp g Γ 30 (xi_if (fun x => x ≤ 0) 75 33) from xs_if_le hΓ dX1_block_30 (by decide)) (fun c => ?_) (fun c => ?_)
    · rw [if_pos c] at e
      refine xw_ild (show xm_Imp g Γ 75 (xi_ild 3 76) from xs_iload_n hΓ dX1_block_75) rfl ?_
      exact xw_iret (show xm_Imp g Γ 76 (xi_iret .int _) from xs_ireturn hΓ rfl dX1_block_76) (xn_int _) ⟨_, rfl, e⟩
    · rw [if_neg c] at e
      refine xw_ild (show xm_Imp g Γ 33 (xi_ild 4 35) from xs_iload hΓ dX1_block_33) rfl ?_
      refine xw_ild (show xm_Imp g Γ 35 (xi_ild 1 36) from xs_iload_n hΓ dX1_block_35) rfl ?_
      refine xw_sv2 (show xm_Imp g Γ 36 (xi_inv g M_X1_has 1 2 39) from xs_invS hG hΓ k_X1_has rfl q1240 q1224 dX1_block_36) rfl (fun Q X hQ => K_X1_has hG s.2.1 l1 rfl hQ) ?_
      refine xw_if (show xm_Imp g Γ 39 (xi_if (fun x => x = 0) 69 42) from xs_if_eq hΓ dX1_block_39 (by decide)) (fun c => ?_) (fun c => ?_)
      · rw [if_pos c] at e
        exact hB_69 _ _ _ _ _ e
      · rw [if_neg c] at e
        refine xw_aldo (x := l2) (show xm_Imp g Γ 42 (xi_ald 2 43) from xs_aload_n hΓ dX1_block_42) rfl ?_
        refine xw_ild (show xm_Imp g Γ 43 (xi_ild 4 45) from xs_iload hΓ dX1_block_43) rfl ?_
        obtain ⟨v14, e1, e⟩ := e
        refine xw_sv2 (show xm_Imp g Γ 45 (xi_inv g M_X1_entropyBy 2 2 48) from xs_invS hG hΓ k_X1_entropyBy rfl q1677 q1678 dX1_block_45) rfl (fun Q X hQ => K_X1_entropyBy hG l2 s.2.1 _ e1 hQ) ?_
        refine xw_if (show xm_Imp g Γ 48 (xi_if (fun x => x = 0) 54 51) from xs_if_eq hΓ dX1_block_48 (by decide)) (fun c => ?_) (fun c => ?_)
        · rw [if_pos c] at e
          refine xw_ild (show xm_Imp g Γ 54 (xi_ild 4 56) from xs_iload hΓ dX1_block_54) rfl ?_
          refine xw_sv1 (show xm_Imp g Γ 56 (xi_inv g M_J17_bitCount 1 1 59) from xs_invS hG hΓ k_J17_bitCount rfl q1209 q1210 dX1_block_56) rfl (fun Q X hQ => K_J17_bitCount hG s.2.1 rfl hQ) ?_
          refine xw_ild (show xm_Imp g Γ 59 (xi_ild 3 60) from xs_iload_n hΓ dX1_block_59) rfl ?_
          refine xw_sv1 (show xm_Imp g Γ 60 (xi_inv g M_J17_bitCount 1 1 63) from xs_invS hG hΓ k_J17_bitCount rfl q1209 q1210 dX1_block_60) rfl (fun Q X hQ => K_J17_bitCount hG s.1 rfl hQ) ?_
          refine xw_ic (show xm_Imp g Γ 63 (xi_ic (fun x y => y < x) 69 66) from xs_icmp_gt hΓ dX1_block_63 (by decide)) (fun c => ?_) (fun c => ?_)
          · rw [if_pos c] at e
            exact hB_69 _ _ _ _ _ e
          · rw [if_neg c] at e
            refine xw_ild (show xm_Imp g Γ 66 (xi_ild 4 68) from xs_iload hΓ dX1_block_66) rfl ?_
            refine xw_ist (ls' := [none, some (.int l1), some (va_rf l2), some (.int s.2.1), some (.int s.2.1)]) (show xm_Imp g Γ 68 (xi_ist 3 69) from xs_istore_n hΓ dX1_block_68 (Nat.le_of_ble_eq_true rfl)) ((xm_s1_o (o := l2) rfl).trans rfl) ?_
            exact hB_69 _ _ _ _ _ e
        · rw [if_neg c] at e
          refine xw_goto (show xm_Imp g Γ 51 (xi_goto 69) from xs_goto hΓ dX1_block_51 (by decide)) ?_
          exact hB_69 _ _ _ _ _ e
  unfold F_X1_block at e
  refine xw_ald (show xm_Imp g Γ 0 (xi_ald 0 1) from xs_aload_n hΓ dX1_block_0) rfl ?_
  refine xw_ild (show xm_Imp g Γ 1 (xi_ild 1 2) from xs_iload_n hΓ dX1_block_1) rfl ?_
  obtain ⟨_, e0, e⟩ := e
  obtain ⟨m1, m2, ⟨em1, em2⟩, e⟩ := e
  refine xw_tXvu1 (o := (some p0)) (show xm_Imp g Γ 2 (xi_virX g 0 M_X1_checkQubit 9 1 5 X) from xs_invVX hG hΓ k_X1_checkQubit rfl rfl (ci := 0) rfl q1863 q1865 qs37 dX1_block_2) rfl rfl e0 em1 em2 (K_X1_checkQubit hG p0 p1 _ _ _ e) (fun h3 e => ?_)
  refine xw_ald (show xm_Imp g Γ 5 (xi_ald 0 6) from xs_aload_n hΓ dX1_block_5) rfl ?_
  obtain ⟨v5, e1, e⟩ := e
  refine xw_gr1 (o := (some p0)) (show xm_Imp g Γ 6 (xi_get 0 0 9) from xs_get hG hΓ (ci := 0) (kf := 0) rfl (Nat.le_of_ble_eq_true rfl) q343 dX1_block_6) rfl e1 ?_
  obtain ⟨a6, ha6, e⟩ := e
  obtain ⟨v7, e1, e⟩ := e
  refine xw_gr1 (o := v5) (show xm_Imp g Γ 9 (xi_get 1 0 12) from xs_getN hG hΓ (ci := 1) (kf := 0) rfl (Nat.le_of_ble_eq_true rfl) q276 dX1_block_9) ha6 e1 ?_
  obtain ⟨a8, ha8, e⟩ := e
  obtain ⟨_, e0, e⟩ := e
  obtain ⟨m9, m10, ⟨em1, em2⟩, e⟩ := e
  refine xw_tvr0 (o := v7) (show xm_Imp g Γ 12 (xi_vir g 2 M_X3_supports 10 0 15) from xs_invV hG hΓ k_X3_supports rfl (ci := 2) rfl q1668 q1669 q1670 dX1_block_12) (by simp [xm_stk, xv_cat, xc_int, xc_long, xc_float, xc_double, xc_ref]) ha8 e0 em1 em2 (K_X3_supports hG a8 _ _ _ e) (fun v12 h11 e => ?_)
  refine xw_asto (x := v12) (ls' := [some (.ref p0), some (.int p1), some (va_rf v12), none, none]) (show xm_Imp g Γ 15 (xi_ast 2 16) from xs_astore_n hΓ dX1_block_15 (Nat.le_of_ble_eq_true rfl)) rfl ?_
  refine xw_psh (v := (.int (1))) (show xm_Imp g Γ 16 (xi_psh (.int (1)) 17) from xs_iconst hΓ dX1_block_16 (by decide)) ?_
  refine xw_ald (show xm_Imp g Γ 17 (xi_ald 0 18) from xs_aload_n hΓ dX1_block_17) rfl ?_
  obtain ⟨_, e0, e⟩ := e
  obtain ⟨v13, e1, e⟩ := e
  refine xw_hv0 (o := (some p0)) (show xm_Imp g Γ 18 (xi_vir g 0 M_X1_qubits 1 0 21) from xs_invV hG hΓ k_X1_qubits rfl (ci := 0) rfl q1139 q1141 qs20 dX1_block_18) rfl rfl e0 (fun Q X hQ => K_X1_qubits hG p0 _ e1 hQ) ?_
  refine xw_ii (show xm_Imp g Γ 21 (xi_ii (fun x y => x <<< (y &&& 31)) 22) from xs_ishl hΓ dX1_block_21) ?_
  refine xw_psh (v := (.int (1))) (show xm_Imp g Γ 22 (xi_psh (.int (1)) 23) from xs_iconst hΓ dX1_block_22 (by decide)) ?_
  refine xw_ii (show xm_Imp g Γ 23 (xi_ii (fun x y => x - y) 24) from xs_isub hΓ dX1_block_23) ?_
  refine xw_ist (ls' := [some (.ref p0), some (.int p1), some (va_rf v12), some (.int ((1 <<< (v13 &&& 31)) - 1)), none]) (show xm_Imp g Γ 24 (xi_ist 3 25) from xs_istore_n hΓ dX1_block_24 (Nat.le_of_ble_eq_true rfl)) ((xm_s1_o (o := v12) rfl).trans rfl) ?_
  refine xw_ild (show xm_Imp g Γ 25 (xi_ild 3 26) from xs_iload_n hΓ dX1_block_25) rfl ?_
  refine xw_ist (ls' := [some (.ref p0), some (.int p1), some (va_rf v12), some (.int ((1 <<< (v13 &&& 31)) - 1)), some (.int ((1 <<< (v13 &&& 31)) - 1))]) (show xm_Imp g Γ 26 (xi_ist 4 28) from xs_istore hΓ dX1_block_26 (Nat.le_of_ble_eq_true rfl)) rfl ?_
  exact xm_lx (hL_28 _ _ _ e) (And.intro rfl (And.intro rfl (And.intro rfl (And.intro rfl (trivial)))))
noncomputable def B_X1_shared_17 (g : xm_G) (l0 : Nat) (l1 : Int32) (l2 : Int32) (s0 : Int32) (h : xm_H) (bc : Nat) (bs : Nat) (Q : Int32 → xm_H → Prop) (X : xm_X) : Prop :=
 xt_c bc bs (fun m5 m6 => F_X1_checkArgument g s0 h m5 m6 (fun h7 =>
 xt_b (xh_fr [(0, 0)] h7 l0) (fun v9 =>
 xt_b v9 (fun a10 =>
 xt_b (xh_fr [(1, 0)] h7 a10) (fun v11 =>
 xt_b v11 (fun a12 =>
 xt_b (xh_is 2 h7 a12) (fun _ =>
 xt_c (bc - m5) (bs - m6) (fun m13 m14 => F_X3_supports g a12 h7 m13 m14 (fun v16 h15 =>
 xt_b (F_X1_entropyBy g v16 l1 h15) (fun v17 =>
 xt_b (F_X1_entropyBy g v16 l2 h15) (fun v18 =>
 xt_b (F_X1_entropyBy g v16 (l1 ||| l2) h15) (fun v19 =>
 Q ((v17 + v18) - v19) h15))))))))))) X)
noncomputable def F_X1_shared (g : xm_G) (p0 : Nat) (p1 : Int32) (p2 : Int32) (h : xm_H) (bc : Nat) (bs : Nat) (Q : Int32 → xm_H → Prop) (X : xm_X) : Prop :=
 xt_b (xh_is 0 h p0) (fun _ =>
 xt_c bc bs (fun m1 m2 => F_X1_checkMasks g p0 p1 p2 h m1 m2 (fun h3 =>
 B_X1_shared_17 g p0 p1 p2 (if (p1 &&& p2) = 0 then 1 else 0) h3 (bc - m1) (bs - m2) Q X) X))
set_option maxHeartbeats 4000000 in
theorem K_X1_shared {g : xm_G} (hG : xm_Gw g) (p0 : Nat) (p1 : Int32) (p2 : Int32) (h : xm_H) (bc : Nat) (bs : Nat) {Q : Int32 → xm_H → Prop} {X : xm_X} (e : F_X1_shared g p0 p1 p2 h bc bs Q X) : xm_Run g M_X1_shared 11 [.ref p0, .int p1, .int p2] h bc bs (fun v h' => ∃ r, v = some (.int r) ∧ Q r h') X := by
  refine xm_Run.of pn_StringTableau (Nat.le_of_ble_eq_true rfl) (fun Γ hΓ => ?_)
  show xm_W g Γ 0 [some (.ref p0), some (.int p1), some (.int p2), none] [] h bc bs
  have hB_17 : ∀ (l0 : Nat) (l1 : Int32) (l2 : Int32) (s0 : Int32) (h : xm_H) (bc : Nat) (bs : Nat), B_X1_shared_17 g l0 l1 l2 s0 h bc bs Q X → xm_W g Γ 17 [some (.ref l0), some (.int l1), some (.int l2), none] [.int s0] h bc bs := by
    intro l0 l1 l2 s0 h bc bs e
    unfold B_X1_shared_17 at e
    obtain ⟨m5, m6, ⟨em1, em2⟩, e⟩ := e
    refine xw_tXsu1 (show xm_Imp g Γ 17 (xi_invX g M_X1_checkArgument 8 1 20 X) from xs_invSX hG hΓ k_X1_checkArgument rfl rfl q1868 q1869 dX1_shared_17) rfl em1 em2 (K_X1_checkArgument hG s0 _ _ _ e) (fun h7 e => ?_)
    refine xw_ald (show xm_Imp g Γ 20 (xi_ald 0 21) from xs_aload_n hΓ dX1_shared_20) rfl ?_
    obtain ⟨v9, e1, e⟩ := e
    refine xw_gr1 (o := (some l0)) (show xm_Imp g Γ 21 (xi_get 0 0 24) from xs_get hG hΓ (ci := 0) (kf := 0) rfl (Nat.le_of_ble_eq_true rfl) q343 dX1_shared_21) rfl e1 ?_
    obtain ⟨a10, ha10, e⟩ := e
    obtain ⟨v11, e1, e⟩ := e
    refine xw_gr1 (o := v9) (show xm_Imp g Γ 24 (xi_get 1 0 27) from xs_getN hG hΓ (ci := 1) (kf := 0) rfl (Nat.le_of_ble_eq_true rfl) q276 dX1_shared_24) ha10 e1 ?_
    obtain ⟨a12, ha12, e⟩ := e
    obtain ⟨_, e0, e⟩ := e
    obtain ⟨m13, m14, ⟨em1, em2⟩, e⟩ := e
    refine xw_tvr0 (o := v11) (show xm_Imp g Γ 27 (xi_vir g 2 M_X3_supports 10 0 30) from xs_invV hG hΓ k_X3_supports rfl (ci := 2) rfl q1668 q1669 q1670 dX1_shared_27) (by simp [xm_stk, xv_cat, xc_int, xc_long, xc_float, xc_double, xc_ref]) ha12 e0 em1 em2 (K_X3_supports hG a12 _ _ _ e) (fun v16 h15 e => ?_)
    refine xw_asto (x := v16) (ls' := [some (.ref l0), some (.int l1), some (.int l2), some (va_rf v16)]) (show xm_Imp g Γ 30 (xi_ast 3 31) from xs_astore_n hΓ dX1_shared_30 (Nat.le_of_ble_eq_true rfl)) rfl ?_
    refine xw_aldo (x := v16) (show xm_Imp g Γ 31 (xi_ald 3 32) from xs_aload_n hΓ dX1_shared_31) rfl ?_
    refine xw_ild (show xm_Imp g Γ 32 (xi_ild 1 33) from xs_iload_n hΓ dX1_shared_32) rfl ?_
    obtain ⟨v17, e1, e⟩ := e
    refine xw_sv2 (show xm_Imp g Γ 33 (xi_inv g M_X1_entropyBy 2 2 36) from xs_invS hG hΓ k_X1_entropyBy rfl q1677 q1678 dX1_shared_33) rfl (fun Q X hQ => K_X1_entropyBy hG v16 l1 _ e1 hQ) ?_
    refine xw_aldo (x := v16) (show xm_Imp g Γ 36 (xi_ald 3 37) from xs_aload_n hΓ dX1_shared_36) rfl ?_
    refine xw_ild (show xm_Imp g Γ 37 (xi_ild 2 38) from xs_iload_n hΓ dX1_shared_37) rfl ?_
    obtain ⟨v18, e1, e⟩ := e
    refine xw_sv2 (show xm_Imp g Γ 38 (xi_inv g M_X1_entropyBy 2 2 41) from xs_invS hG hΓ k_X1_entropyBy rfl q1677 q1678 dX1_shared_38) rfl (fun Q X hQ => K_X1_entropyBy hG v16 l2 _ e1 hQ) ?_
    refine xw_ii (show xm_Imp g Γ 41 (xi_ii (fun x y => x + y) 42) from xs_iadd hΓ dX1_shared_41) ?_
    refine xw_aldo (x := v16) (show xm_Imp g Γ 42 (xi_ald 3 43) from xs_aload_n hΓ dX1_shared_42) rfl ?_
    refine xw_ild (show xm_Imp g Γ 43 (xi_ild 1 44) from xs_iload_n hΓ dX1_shared_43) rfl ?_
    refine xw_ild (show xm_Imp g Γ 44 (xi_ild 2 45) from xs_iload_n hΓ dX1_shared_44) rfl ?_
    refine xw_ii (show xm_Imp g Γ 45 (xi_ii (fun x y => x ||| y) 46) from xs_ior hΓ dX1_shared_45) ?_
    obtain ⟨v19, e1, e⟩ := e
    refine xw_sv2 (show xm_Imp g Γ 46 (xi_inv g M_X1_entropyBy 2 2 49) from xs_invS hG hΓ k_X1_entropyBy rfl q1677 q1678 dX1_shared_46) rfl (fun Q X hQ => K_X1_entropyBy hG v16 (l1 ||| l2) _ e1 hQ) ?_
    refine xw_ii (show xm_Imp g Γ 49 (xi_ii (fun x y => x - y) 50) from xs_isub hΓ dX1_shared_49) ?_
    exact xw_iret (show xm_Imp g Γ 50 (xi_iret .int _) from xs_ireturn hΓ rfl dX1_shared_50) (xn_int _) ⟨_, rfl, e⟩
  unfold F_X1_shared at e
  refine xw_ald (show xm_Imp g Γ 0 (xi_ald 0 1) from xs_aload_n hΓ dX1_shared_0) rfl ?_
  refine xw_ild (show xm_Imp g Γ 1 (xi_ild 1 2) from xs_iload_n hΓ dX1_shared_1) rfl ?_
  refine xw_ild (show xm_Imp g Γ 2 (xi_ild 2 3) from xs_iload_n hΓ dX1_shared_2) rfl ?_
  obtain ⟨_, e0, e⟩ := e
  obtain ⟨m1, m2, ⟨em1, em2⟩, e⟩ := e
  refine xw_tXvu2 (o := (some p0)) (show xm_Imp g Γ 3 (xi_virX g 0 M_X1_checkMasks 9 2 6 X) from xs_invVX hG hΓ k_X1_checkMasks rfl rfl (ci := 0) rfl q1885 q1887 qs38 dX1_shared_3) rfl rfl e0 em1 em2 (K_X1_checkMasks hG p0 p1 p2 _ _ _ e) (fun h3 e => ?_)
  refine xw_ild (show xm_Imp g Γ 6 (xi_ild 1 7) from xs_iload_n hΓ dX1_shared_6) rfl ?_
  refine xw_ild (show xm_Imp g Γ 7 (xi_ild 2 8) from xs_iload_n hΓ dX1_shared_7) rfl ?_
  refine xw_ii (show xm_Imp g Γ 8 (xi_ii (fun x y => x &&& y) 9) from xs_iand hΓ dX1_shared_8) ?_
  refine xw_if (show xm_Imp g Γ 9 (xi_if (fun x => x = 0) 12 16) from xs_if_ne hΓ dX1_shared_9 (by decide)) (fun c => ?_) (fun c => ?_)
  · rw [if_pos c] at e
    refine xw_psh (v := (.int (1))) (show xm_Imp g Γ 12 (xi_psh (.int (1)) 13) from xs_iconst hΓ dX1_shared_12 (by decide)) ?_
    refine xw_goto (show xm_Imp g Γ 13 (xi_goto 17) from xs_goto hΓ dX1_shared_13 (by decide)) ?_
    exact hB_17 _ _ _ _ _ _ _ e
  · rw [if_neg c] at e
    refine xw_psh (v := (.int (0))) (show xm_Imp g Γ 16 (xi_psh (.int (0)) 17) from xs_iconst hΓ dX1_shared_16 (by decide)) ?_
    exact hB_17 _ _ _ _ _ _ _ e
noncomputable def B_X1_closestPair_112 (g : xm_G) (l0 : Nat) (l1 : Option Nat) (l2 : Int32) (l3 : Int32) (l4 : Int32) (l5 : Int32) (h : xm_H) (bc : Nat) (bs : Nat) (k34 : Int32 × Int32 × Int32 × xm_H × Nat × Nat → Prop) (k49 : Int32 × Int32 × Int32 × xm_H × Nat × Nat → Prop) (Q : Int32 → xm_H → Prop) (X : xm_X) : Prop :=
 k49 (l2, l3, (l5 + 1), h, bc, bs)
noncomputable def D_X1_closestPair_49 (g : xm_G) (l0 : Nat) (l1 : Option Nat) (l4 : Int32) (k34 : Int32 × Int32 × Int32 × xm_H × Nat × Nat → Prop) (Q : Int32 → xm_H → Prop) (X : xm_X) (k49 : Int32 × Int32 × Int32 × xm_H × Nat × Nat → Prop) (s : Int32 × Int32 × Int32 × xm_H × Nat × Nat) : Prop :=
 xt_b (xh_is 0 s.2.2.2.1 l0) (fun _ =>
 xt_b (F_X1_qubits g l0 s.2.2.2.1) (fun v15 =>
 (if v15 ≤ s.2.2.1 then
 k34 (s.1, s.2.1, (l4 + 1), s.2.2.2.1, s.2.2.2.2.1, s.2.2.2.2.2) else
 xt_b (F_X1_entropyBy g l1 (1 <<< (l4 &&& 31)) s.2.2.2.1) (fun v16 =>
 xt_b (F_X1_entropyBy g l1 (1 <<< (s.2.2.1 &&& 31)) s.2.2.2.1) (fun v17 =>
 xt_b (F_X1_entropyBy g l1 ((1 <<< (l4 &&& 31)) ||| (1 <<< (s.2.2.1 &&& 31))) s.2.2.2.1) (fun v18 =>
 B_X1_closestPair_112 g l0 l1 (if s.2.1 < ((v16 + v17) - v18) then (8 * l4) + s.2.2.1 else s.1) (if s.2.1 < ((v16 + v17) - v18) then (v16 + v17) - v18 else s.2.1) l4 s.2.2.1 s.2.2.2.1 s.2.2.2.2.1 s.2.2.2.2.2 k34 k49 Q X))))))
noncomputable def L_X1_closestPair_49 (g : xm_G) (l0 : Nat) (l1 : Option Nat) (l4 : Int32) (k34 : Int32 × Int32 × Int32 × xm_H × Nat × Nat → Prop) (Q : Int32 → xm_H → Prop) (X : xm_X) (s : Int32 × Int32 × Int32 × xm_H × Nat × Nat) : Prop := xt_loop (D_X1_closestPair_49 g l0 l1 l4 k34 Q X) s
noncomputable def D_X1_closestPair_34 (g : xm_G) (l0 : Nat) (l1 : Option Nat) (Q : Int32 → xm_H → Prop) (X : xm_X) (k34 : Int32 × Int32 × Int32 × xm_H × Nat × Nat → Prop) (s : Int32 × Int32 × Int32 × xm_H × Nat × Nat) : Prop :=
 xt_b (xh_is 0 s.2.2.2.1 l0) (fun _ =>
 xt_b (F_X1_qubits g l0 s.2.2.2.1) (fun v14 =>
 (if v14 ≤ s.2.2.1 then
 Q s.1 s.2.2.2.1 else
 L_X1_closestPair_49 g l0 l1 s.2.2.1 k34 Q X (s.1, s.2.1, (s.2.2.1 + 1), s.2.2.2.1, s.2.2.2.2.1, s.2.2.2.2.2))))
noncomputable def L_X1_closestPair_34 (g : xm_G) (l0 : Nat) (l1 : Option Nat) (Q : Int32 → xm_H → Prop) (X : xm_X) (s : Int32 × Int32 × Int32 × xm_H × Nat × Nat) : Prop := xt_loop (D_X1_closestPair_34 g l0 l1 Q X) s
noncomputable def B_X1_closestPair_13 (g : xm_G) (l0 : Nat) (s0 : Int32) (h : xm_H) (bc : Nat) (bs : Nat) (Q : Int32 → xm_H → Prop) (X : xm_X) : Prop :=
 xt_c bc bs (fun m2 m3 => F_X1_checkState g s0 h m2 m3 (fun h4 =>
 xt_b (xh_fr [(0, 0)] h4 l0) (fun v6 =>
 xt_b v6 (fun a7 =>
 xt_b (xh_fr [(1, 0)] h4 a7) (fun v8 =>
 xt_b v8 (fun a9 =>
 xt_b (xh_is 2 h4 a9) (fun _ =>
 xt_c (bc - m2) (bs - m3) (fun m10 m11 => F_X3_supports g a9 h4 m10 m11 (fun v13 h12 =>
 L_X1_closestPair_34 g l0 v13 Q X ((-1), (-1), 0, h12, ((bc - m2) - m10), ((bs - m3) - m11)))))))))) X)
noncomputable def F_X1_closestPair (g : xm_G) (p0 : Nat) (h : xm_H) (bc : Nat) (bs : Nat) (Q : Int32 → xm_H → Prop) (X : xm_X) : Prop :=
 xt_b (xh_is 0 h p0) (fun _ =>
 xt_b (F_X1_qubits g p0 h) (fun v1 =>
 B_X1_closestPair_13 g p0 (if v1 ≤ (1 : Int32) then 0 else 1) h bc bs Q X))
set_option maxHeartbeats 4000000 in
theorem K_X1_closestPair {g : xm_G} (hG : xm_Gw g) (p0 : Nat) (h : xm_H) (bc : Nat) (bs : Nat) {Q : Int32 → xm_H → Prop} {X : xm_X} (e : F_X1_closestPair g p0 h bc bs Q X) : xm_Run g M_X1_closestPair 11 [.ref p0] h bc bs (fun v h' => ∃ r, v = some (.int r) ∧ Q r h') X := by
  refine xm_Run.of pn_StringTableau (Nat.le_of_ble_eq_true rfl) (fun Γ hΓ => ?_)
  show xm_W g Γ 0 [some (.ref p0), none, none, none, none, none, none] [] h bc bs
  have hL_34 : ∀ (l0 : Nat) (l1 : Option Nat) (s : Int32 × Int32 × Int32 × xm_H × Nat × Nat), L_X1_closestPair_34 g l0 l1 Q X s → xm_W g Γ 34 [some (.ref l0), some (va_rf l1), some (.int s.1), some (.int s.2.1), some (.int s.2.2.1), none, none] [] s.2.2.2.1 s.2.2.2.2.1 s.2.2.2.2.2 := by
    intro l0 l1
    refine xt_rule (WS := fun s : Int32 × Int32 × Int32 × xm_H × Nat × Nat => xm_W g Γ 34 [some (.ref l0), some (va_rf l1), some (.int s.1), some (.int s.2.1), some (.int s.2.2.1), none, none] [] s.2.2.2.1 s.2.2.2.2.1 s.2.2.2.2.2) ?_
    intro k34 hk34 s e
    have hL_49 : ∀ (l4 : Int32) (s : Int32 × Int32 × Int32 × xm_H × Nat × Nat), L_X1_closestPair_49 g l0 l1 l4 k34 Q X s → xm_W g Γ 49 [some (.ref l0), some (va_rf l1), some (.int s.1), some (.int s.2.1), some (.int l4), some (.int s.2.2.1), none] [] s.2.2.2.1 s.2.2.2.2.1 s.2.2.2.2.2 := by
      intro l4
      refine xt_rule (WS := fun s : Int32 × Int32 × Int32 × xm_H × Nat × Nat => xm_W g Γ 49 [some (.ref l0), some (va_rf l1), some (.int s.1), some (.int s.2.1), some (.int l4), some (.int s.2.2.1), none] [] s.2.2.2.1 s.2.2.2.2.1 s.2.2.2.2.2) ?_
      intro k49 hk49 s e
      have hB_112 : ∀ (l2 : Int32) (l3 : Int32) (l5 : Int32) (h : xm_H) (bc : Nat) (bs : Nat), B_X1_closestPair_112 g l0 l1 l2 l3 l4 l5 h bc bs k34 k49 Q X → xm_W g Γ 112 [some (.ref l0), some (va_rf l1), some (.int l2), some (.int l3), some (.int l4), some (.int l5), none] [] h bc bs := by
        intro l2 l3 l5 h bc bs e
        unfold B_X1_closestPair_112 at e
        refine xw_inc (v := (1)) (ls' := [some (.ref l0), some (va_rf l1), some (.int l2), some (.int l3), some (.int l4), some (.int (l5 + 1)), none]) (show xm_Imp g Γ 112 (xi_inc 5 (1) 115) from xs_iinc hΓ dX1_closestPair_112 (by decide) (Nat.le_of_ble_eq_true rfl)) rfl rfl ?_
        refine xw_goto (show xm_Imp g Γ 115 (xi_goto 49) from xs_goto hΓ dX1_closestPair_115 (by decide)) ?_
        have hq := hk49 _ e; exact hq
      unfold D_X1_closestPair_49 at e
      refine xw_ild (show xm_Imp g Γ 49 (xi_ild 5 51) from xs_iload hΓ dX1_closestPair_49) rfl ?_
      refine xw_ald (show xm_Imp g Γ 51 (xi_ald 0 52) from xs_aload_n hΓ dX1_closestPair_51) rfl ?_
      obtain ⟨_, e0, e⟩ := e
      obtain ⟨v15, e1, e⟩ := e
      refine xw_hv0 (o := (some l0)) (show xm_Imp g Γ 52 (xi_vir g 0 M_X1_qubits 1 0 55) from xs_invV hG hΓ k_X1_qubits rfl (ci := 0) rfl q1139 q1141 qs20 dX1_closestPair_52) rfl rfl e0 (fun Q X hQ => K_X1_qubits hG l0 _ e1 hQ) ?_
      refine xw_ic (show xm_Imp g Γ 55 (xi_ic (fun x y => y ≤ x) 118 58) from xs_icmp_ge hΓ dX1_closestPair_55 (by decide)) (fun c => ?_) (fun c => ?_)
      · rw [if_pos c] at e
        refine xw_inc (v := (1)) (ls' := [some (.ref l0), some (va_rf l1), some (.int s.1), some (.int s.2.1), some (.int (l4 + 1)), some (.int s.2.2.1), none]) (show xm_Imp g Γ 118 (xi_inc 4 (1) 121) from xs_iinc hΓ dX1_closestPair_118 (by decide) (Nat.le_of_ble_eq_true rfl)) rfl rfl ?_
        refine xw_goto (show xm_Imp g Γ 121 (xi_goto 34) from xs_goto hΓ dX1_closestPair_121 (by decide)) ?_
        have hq := hk34 _ e; exact xm_lx (hq) (And.intro rfl (And.intro rfl (And.intro rfl (And.intro rfl (And.intro rfl (trivial))))))
      · rw [if_neg c] at e
        refine xw_aldo (x := l1) (show xm_Imp g Γ 58 (xi_ald 1 59) from xs_aload_n hΓ dX1_closestPair_58) rfl ?_
        refine xw_psh (v := (.int (1))) (show xm_Imp g Γ 59 (xi_psh (.int (1)) 60) from xs_iconst hΓ dX1_closestPair_59 (by decide)) ?_
        refine xw_ild (show xm_Imp g Γ 60 (xi_ild 4 62) from xs_iload hΓ dX1_closestPair_60) rfl ?_
        refine xw_ii (show xm_Imp g Γ 62 (xi_ii (fun x y => x <<< (y &&& 31)) 63) from xs_ishl hΓ dX1_closestPair_62) ?_
        obtain ⟨v16, e1, e⟩ := e
        refine xw_sv2 (show xm_Imp g Γ 63 (xi_inv g M_X1_entropyBy 2 2 66) from xs_invS hG hΓ k_X1_entropyBy rfl q1677 q1678 dX1_closestPair_63) rfl (fun Q X hQ => K_X1_entropyBy hG l1 (1 <<< (l4 &&& 31)) _ e1 hQ) ?_
        refine xw_aldo (x := l1) (show xm_Imp g Γ 66 (xi_ald 1 67) from xs_aload_n hΓ dX1_closestPair_66) rfl ?_
        refine xw_psh (v := (.int (1))) (show xm_Imp g Γ 67 (xi_psh (.int (1)) 68) from xs_iconst hΓ dX1_closestPair_67 (by decide)) ?_
        refine xw_ild (show xm_Imp g Γ 68 (xi_ild 5 70) from xs_iload hΓ dX1_closestPair_68) rfl ?_
        refine xw_ii (show xm_Imp g Γ 70 (xi_ii (fun x y => x <<< (y &&& 31)) 71) from xs_ishl hΓ dX1_closestPair_70) ?_
        obtain ⟨v17, e1, e⟩ := e
        refine xw_sv2 (show xm_Imp g Γ 71 (xi_inv g M_X1_entropyBy 2 2 74) from xs_invS hG hΓ k_X1_entropyBy rfl q1677 q1678 dX1_closestPair_71) rfl (fun Q X hQ => K_X1_entropyBy hG l1 (1 <<< (s.2.2.1 &&& 31)) _ e1 hQ) ?_
        refine xw_ii (show xm_Imp g Γ 74 (xi_ii (fun x y => x + y) 75) from xs_iadd hΓ dX1_closestPair_74) ?_
        refine xw_aldo (x := l1) (show xm_Imp g Γ 75 (xi_ald 1 76) from xs_aload_n hΓ dX1_closestPair_75) rfl ?_
        refine xw_psh (v := (.int (1))) (show xm_Imp g Γ 76 (xi_psh (.int (1)) 77) from xs_iconst hΓ dX1_closestPair_76 (by decide)) ?_
        refine xw_ild (show xm_Imp g Γ 77 (xi_ild 4 79) from xs_iload hΓ dX1_closestPair_77) rfl ?_
        refine xw_ii (show xm_Imp g Γ 79 (xi_ii (fun x y => x <<< (y &&& 31)) 80) from xs_ishl hΓ dX1_closestPair_79) ?_
        refine xw_psh (v := (.int (1))) (show xm_Imp g Γ 80 (xi_psh (.int (1)) 81) from xs_iconst hΓ dX1_closestPair_80 (by decide)) ?_
        refine xw_ild (show xm_Imp g Γ 81 (xi_ild 5 83) from xs_iload hΓ dX1_closestPair_81) rfl ?_
        refine xw_ii (show xm_Imp g Γ 83 (xi_ii (fun x y => x <<< (y &&& 31)) 84) from xs_ishl hΓ dX1_closestPair_83) ?_
        refine xw_ii (show xm_Imp g Γ 84 (xi_ii (fun x y => x ||| y) 85) from xs_ior hΓ dX1_closestPair_84) ?_
        obtain ⟨v18, e1, e⟩ := e
        refine xw_sv2 (show xm_Imp g Γ 85 (xi_inv g M_X1_entropyBy 2 2 88) from xs_invS hG hΓ k_X1_entropyBy rfl q1677 q1678 dX1_closestPair_85) rfl (fun Q X hQ => K_X1_entropyBy hG l1 ((1 <<< (l4 &&& 31)) ||| (1 <<< (s.2.2.1 &&& 31))) _ e1 hQ) ?_
        refine xw_ii (show xm_Imp g Γ 88 (xi_ii (fun x y => x - y) 89) from xs_isub hΓ dX1_closestPair_88) ?_
        refine xw_ist (ls' := [some (.ref l0), some (va_rf l1), some (.int s.1), some (.int s.2.1), some (.int l4), some (.int s.2.2.1), some (.int ((v16 + v17) - v18))]) (show xm_Imp g Γ 89 (xi_ist 6 91) from xs_istore hΓ dX1_closestPair_89 (Nat.le_of_ble_eq_true rfl)) rfl ?_
        refine xw_ild (show xm_Imp g Γ 91 (xi_ild 6 93) from xs_iload hΓ dX1_closestPair_91) rfl ?_
        refine xw_ild (show xm_Imp g Γ 93 (xi_ild 3 94) from xs_iload_n hΓ dX1_closestPair_93) rfl ?_
        refine xw_ic (show xm_Imp g Γ 94 (xi_ic (fun x y => y < x) 100 97) from xs_icmp_gt hΓ dX1_closestPair_94 (by decide)) (fun c => ?_) (fun c => ?_)
        · simp only [if_pos c] at e
          refine xw_psh (v := (.int (8))) (show xm_Imp g Γ 100 (xi_psh (.int (8)) 102) from xs_bipush hΓ dX1_closestPair_100 (by decide)) ?_
          refine xw_ild (show xm_Imp g Γ 102 (xi_ild 4 104) from xs_iload hΓ dX1_closestPair_102) rfl ?_
          refine xw_ii (show xm_Imp g Γ 104 (xi_ii (fun x y => x * y) 105) from xs_imul hΓ dX1_closestPair_104) ?_
          refine xw_ild (show xm_Imp g Γ 105 (xi_ild 5 107) from xs_iload hΓ dX1_closestPair_105) rfl ?_
          refine xw_ii (show xm_Imp g Γ 107 (xi_ii (fun x y => x + y) 108) from xs_iadd hΓ dX1_closestPair_107) ?_
          refine xw_ist (ls' := [some (.ref l0), some (va_rf l1), some (.int ((8 * l4) + s.2.2.1)), some (.int s.2.1), some (.int l4), some (.int s.2.2.1), some (.int ((v16 + v17) - v18))]) (show xm_Imp g Γ 108 (xi_ist 2 109) from xs_istore_n hΓ dX1_closestPair_108 (Nat.le_of_ble_eq_true rfl)) ((xm_s1_o (o := l1) rfl).trans rfl) ?_
          refine xw_ild (show xm_Imp g Γ 109 (xi_ild 6 111) from xs_iload hΓ dX1_closestPair_109) rfl ?_
          refine xw_ist (ls' := [some (.ref l0), some (va_rf l1), some (.int ((8 * l4) + s.2.2.1)), some (.int ((v16 + v17) - v18)), some (.int l4), some (.int s.2.2.1), some (.int ((v16 + v17) - v18))]) (show xm_Imp g Γ 111 (xi_ist 3 112) from xs_istore_n hΓ dX1_closestPair_111 (Nat.le_of_ble_eq_true rfl)) rfl ?_
          exact xm_lx (hB_112 _ _ _ _ _ _ e) (And.intro rfl (And.intro rfl (And.intro rfl (And.intro rfl (And.intro rfl (And.intro rfl (trivial)))))))
        · simp only [if_neg c] at e
          refine xw_goto (show xm_Imp g Γ 97 (xi_goto 112) from xs_goto hΓ dX1_closestPair_97 (by decide)) ?_
          exact xm_lx (hB_112 _ _ _ _ _ _ e) (And.intro rfl (And.intro rfl (And.intro rfl (And.intro rfl (And.intro rfl (And.intro rfl (trivial)))))))
    unfold D_X1_closestPair_34 at e
    refine xw_ild (show xm_Imp g Γ 34 (xi_ild 4 36) from xs_iload hΓ dX1_closestPair_34) rfl ?_
    refine xw_ald (show xm_Imp g Γ 36 (xi_ald 0 37) from xs_aload_n hΓ dX1_closestPair_36) rfl ?_
    obtain ⟨_, e0, e⟩ := e
    obtain ⟨v14, e1, e⟩ := e
    refine xw_hv0 (o := (some l0)) (show xm_Imp g Γ 37 (xi_vir g 0 M_X1_qubits 1 0 40) from xs_invV hG hΓ k_X1_qubits rfl (ci := 0) rfl q1139 q1141 qs20 dX1_closestPair_37) rfl rfl e0 (fun Q X hQ => K_X1_qubits hG l0 _ e1 hQ) ?_
    refine xw_ic (show xm_Imp g Γ 40 (xi_ic (fun x y => y ≤ x) 124 43) from xs_icmp_ge hΓ dX1_closestPair_40 (by decide)) (fun c => ?_) (fun c => ?_)
    · rw [if_pos c] at e
      refine xw_ild (show xm_Imp g Γ 124 (xi_ild 2 125) from xs_iload_n hΓ dX1_closestPair_124) rfl ?_
      exact xw_iret (show xm_Imp g Γ 125 (xi_iret .int _) from xs_ireturn hΓ rfl dX1_closestPair_125) (xn_int _) ⟨_, rfl, e⟩
    · rw [if_neg c] at e
      refine xw_ild (show xm_Imp g Γ 43 (xi_ild 4 45) from xs_iload hΓ dX1_closestPair_43) rfl ?_
      refine xw_psh (v := (.int (1))) (show xm_Imp g Γ 45 (xi_psh (.int (1)) 46) from xs_iconst hΓ dX1_closestPair_45 (by decide)) ?_
      refine xw_ii (show xm_Imp g Γ 46 (xi_ii (fun x y => x + y) 47) from xs_iadd hΓ dX1_closestPair_46) ?_
      refine xw_ist (ls' := [some (.ref l0), some (va_rf l1), some (.int s.1), some (.int s.2.1), some (.int s.2.2.1), some (.int (s.2.2.1 + 1)), none]) (show xm_Imp g Γ 47 (xi_ist 5 49) from xs_istore hΓ dX1_closestPair_47 (Nat.le_of_ble_eq_true rfl)) rfl ?_
      exact hL_49 _ _ e
  have hB_13 : ∀ (l0 : Nat) (s0 : Int32) (h : xm_H) (bc : Nat) (bs : Nat), B_X1_closestPair_13 g l0 s0 h bc bs Q X → xm_W g Γ 13 [some (.ref l0), none, none, none, none, none, none] [.int s0] h bc bs := by
    intro l0 s0 h bc bs e
    unfold B_X1_closestPair_13 at e
    obtain ⟨m2, m3, ⟨em1, em2⟩, e⟩ := e
    refine xw_tXsu1 (show xm_Imp g Γ 13 (xi_invX g M_X1_checkState 8 1 16 X) from xs_invSX hG hΓ k_X1_checkState rfl rfl q1891 q1892 dX1_closestPair_13) rfl em1 em2 (K_X1_checkState hG s0 _ _ _ e) (fun h4 e => ?_)
    refine xw_ald (show xm_Imp g Γ 16 (xi_ald 0 17) from xs_aload_n hΓ dX1_closestPair_16) rfl ?_
    obtain ⟨v6, e1, e⟩ := e
    refine xw_gr1 (o := (some l0)) (show xm_Imp g Γ 17 (xi_get 0 0 20) from xs_get hG hΓ (ci := 0) (kf := 0) rfl (Nat.le_of_ble_eq_true rfl) q343 dX1_closestPair_17) rfl e1 ?_
    obtain ⟨a7, ha7, e⟩ := e
    obtain ⟨v8, e1, e⟩ := e
    refine xw_gr1 (o := v6) (show xm_Imp g Γ 20 (xi_get 1 0 23) from xs_getN hG hΓ (ci := 1) (kf := 0) rfl (Nat.le_of_ble_eq_true rfl) q276 dX1_closestPair_20) ha7 e1 ?_
    obtain ⟨a9, ha9, e⟩ := e
    obtain ⟨_, e0, e⟩ := e
    obtain ⟨m10, m11, ⟨em1, em2⟩, e⟩ := e
    refine xw_tvr0 (o := v8) (show xm_Imp g Γ 23 (xi_vir g 2 M_X3_supports 10 0 26) from xs_invV hG hΓ k_X3_supports rfl (ci := 2) rfl q1668 q1669 q1670 dX1_closestPair_23) (by simp [xm_stk, xv_cat, xc_int, xc_long, xc_float, xc_double, xc_ref]) ha9 e0 em1 em2 (K_X3_supports hG a9 _ _ _ e) (fun v13 h12 e => ?_)
    refine xw_asto (x := v13) (ls' := [some (.ref l0), some (va_rf v13), none, none, none, none, none]) (show xm_Imp g Γ 26 (xi_ast 1 27) from xs_astore_n hΓ dX1_closestPair_26 (Nat.le_of_ble_eq_true rfl)) rfl ?_
    refine xw_psh (v := (.int (-1))) (show xm_Imp g Γ 27 (xi_psh (.int (-1)) 28) from xs_iconst hΓ dX1_closestPair_27 (by decide)) ?_
    refine xw_ist (ls' := [some (.ref l0), some (va_rf v13), some (.int (-1)), none, none, none, none]) (show xm_Imp g Γ 28 (xi_ist 2 29) from xs_istore_n hΓ dX1_closestPair_28 (Nat.le_of_ble_eq_true rfl)) ((xm_s1_o (o := v13) rfl).trans rfl) ?_
    refine xw_psh (v := (.int (-1))) (show xm_Imp g Γ 29 (xi_psh (.int (-1)) 30) from xs_iconst hΓ dX1_closestPair_29 (by decide)) ?_
    refine xw_ist (ls' := [some (.ref l0), some (va_rf v13), some (.int (-1)), some (.int (-1)), none, none, none]) (show xm_Imp g Γ 30 (xi_ist 3 31) from xs_istore_n hΓ dX1_closestPair_30 (Nat.le_of_ble_eq_true rfl)) rfl ?_
    refine xw_psh (v := (.int (0))) (show xm_Imp g Γ 31 (xi_psh (.int (0)) 32) from xs_iconst hΓ dX1_closestPair_31 (by decide)) ?_
    refine xw_ist (ls' := [some (.ref l0), some (va_rf v13), some (.int (-1)), some (.int (-1)), some (.int 0), none, none]) (show xm_Imp g Γ 32 (xi_ist 4 34) from xs_istore hΓ dX1_closestPair_32 (Nat.le_of_ble_eq_true rfl)) rfl ?_
    exact hL_34 _ _ _ e
  unfold F_X1_closestPair at e
  refine xw_ald (show xm_Imp g Γ 0 (xi_ald 0 1) from xs_aload_n hΓ dX1_closestPair_0) rfl ?_
  obtain ⟨_, e0, e⟩ := e
  obtain ⟨v1, e1, e⟩ := e
  refine xw_hv0 (o := (some p0)) (show xm_Imp g Γ 1 (xi_vir g 0 M_X1_qubits 1 0 4) from xs_invV hG hΓ k_X1_qubits rfl (ci := 0) rfl q1139 q1141 qs20 dX1_closestPair_1) rfl rfl e0 (fun Q X hQ => K_X1_qubits hG p0 _ e1 hQ) ?_
  refine xw_psh (v := (.int (1))) (show xm_Imp g Γ 4 (xi_psh (.int (1)) 5) from xs_iconst hΓ dX1_closestPair_4 (by decide)) ?_
  refine xw_ic (show xm_Imp g Γ 5 (xi_ic (fun x y => x ≤ y) 12 8) from xs_icmp_le hΓ dX1_closestPair_5 (by decide)) (fun c => ?_) (fun c => ?_)
  · rw [if_pos c] at e
    refine xw_psh (v := (.int (0))) (show xm_Imp g Γ 12 (xi_psh (.int (0)) 13) from xs_iconst hΓ dX1_closestPair_12 (by decide)) ?_
    exact hB_13 _ _ _ _ _ e
  · rw [if_neg c] at e
    refine xw_psh (v := (.int (1))) (show xm_Imp g Γ 8 (xi_psh (.int (1)) 9) from xs_iconst hΓ dX1_closestPair_8 (by decide)) ?_
    refine xw_goto (show xm_Imp g Γ 9 (xi_goto 13) from xs_goto hΓ dX1_closestPair_9 (by decide)) ?_
    exact hB_13 _ _ _ _ _ e
noncomputable def B_X1_mostEntangled_79 (g : xm_G) (l0 : Nat) (l1 : Int32) (l2 : Option Nat) (l3 : Int32) (l4 : Int32) (l5 : Int32) (h : xm_H) (bc : Nat) (bs : Nat) (k31 : Int32 × Int32 × Int32 × xm_H × Nat × Nat → Prop) (Q : Int32 → xm_H → Prop) (X : xm_X) : Prop :=
 k31 (l3, l4, (l5 + 1), h, bc, bs)
noncomputable def D_X1_mostEntangled_31 (g : xm_G) (l0 : Nat) (l1 : Int32) (l2 : Option Nat) (Q : Int32 → xm_H → Prop) (X : xm_X) (k31 : Int32 × Int32 × Int32 × xm_H × Nat × Nat → Prop) (s : Int32 × Int32 × Int32 × xm_H × Nat × Nat) : Prop :=
 xt_b (xh_is 0 s.2.2.2.1 l0) (fun _ =>
 xt_b (F_X1_qubits g l0 s.2.2.2.1) (fun v14 =>
 (if (1 <<< (v14 &&& 31)) ≤ s.2.2.1 then
 Q s.1 s.2.2.2.1 else
 (if (F_J17_bitCount s.2.2.1) = l1 then
 xt_b (F_X1_entropyBy g l2 s.2.2.1 s.2.2.2.1) (fun v15 =>
 B_X1_mostEntangled_79 g l0 l1 l2 (if s.2.1 < v15 then s.2.2.1 else s.1) (if s.2.1 < v15 then v15 else s.2.1) s.2.2.1 s.2.2.2.1 s.2.2.2.2.1 s.2.2.2.2.2 k31 Q X) else
 B_X1_mostEntangled_79 g l0 l1 l2 s.1 s.2.1 s.2.2.1 s.2.2.2.1 s.2.2.2.2.1 s.2.2.2.2.2 k31 Q X))))
noncomputable def L_X1_mostEntangled_31 (g : xm_G) (l0 : Nat) (l1 : Int32) (l2 : Option Nat) (Q : Int32 → xm_H → Prop) (X : xm_X) (s : Int32 × Int32 × Int32 × xm_H × Nat × Nat) : Prop := xt_loop (D_X1_mostEntangled_31 g l0 l1 l2 Q X) s
noncomputable def F_X1_mostEntangled (g : xm_G) (p0 : Nat) (p1 : Int32) (h : xm_H) (bc : Nat) (bs : Nat) (Q : Int32 → xm_H → Prop) (X : xm_X) : Prop :=
 xt_b (xh_is 0 h p0) (fun _ =>
 xt_b (F_X1_qubits g p0 h) (fun v1 =>
 xt_c bc bs (fun m2 m3 => F_X1_checkArgument g (F_X1_inRange p1 1 v1) h m2 m3 (fun h4 =>
 xt_b (xh_fr [(0, 0)] h4 p0) (fun v6 =>
 xt_b v6 (fun a7 =>
 xt_b (xh_fr [(1, 0)] h4 a7) (fun v8 =>
 xt_b v8 (fun a9 =>
 xt_b (xh_is 2 h4 a9) (fun _ =>
 xt_c (bc - m2) (bs - m3) (fun m10 m11 => F_X3_supports g a9 h4 m10 m11 (fun v13 h12 =>
 L_X1_mostEntangled_31 g p0 p1 v13 Q X ((-1), (-1), 1, h12, ((bc - m2) - m10), ((bs - m3) - m11)))))))))) X)))
set_option maxHeartbeats 4000000 in
theorem K_X1_mostEntangled {g : xm_G} (hG : xm_Gw g) (p0 : Nat) (p1 : Int32) (h : xm_H) (bc : Nat) (bs : Nat) {Q : Int32 → xm_H → Prop} {X : xm_X} (e : F_X1_mostEntangled g p0 p1 h bc bs Q X) : xm_Run g M_X1_mostEntangled 11 [.ref p0, .int p1] h bc bs (fun v h' => ∃ r, v = some (.int r) ∧ Q r h') X := by
  refine xm_Run.of pn_StringTableau (Nat.le_of_ble_eq_true rfl) (fun Γ hΓ => ?_)
  show xm_W g Γ 0 [some (.ref p0), some (.int p1), none, none, none, none, none] [] h bc bs
  have hL_31 : ∀ (l0 : Nat) (l1 : Int32) (l2 : Option Nat) (s : Int32 × Int32 × Int32 × xm_H × Nat × Nat), L_X1_mostEntangled_31 g l0 l1 l2 Q X s → xm_W g Γ 31 [some (.ref l0), some (.int l1), some (va_rf l2), some (.int s.1), some (.int s.2.1), some (.int s.2.2.1), none] [] s.2.2.2.1 s.2.2.2.2.1 s.2.2.2.2.2 := by
    intro l0 l1 l2
    refine xt_rule (WS := fun s : Int32 × Int32 × Int32 × xm_H × Nat × Nat => xm_W g Γ 31 [some (.ref l0), some (.int l1), some (va_rf l2), some (.int s.1), some (.int s.2.1), some (.int s.2.2.1), none] [] s.2.2.2.1 s.2.2.2.2.1 s.2.2.2.2.2) ?_
    intro k31 hk31 s e
    have hB_79 : ∀ (l3 : Int32) (l4 : Int32) (l5 : Int32) (h : xm_H) (bc : Nat) (bs : Nat), B_X1_mostEntangled_79 g l0 l1 l2 l3 l4 l5 h bc bs k31 Q X → xm_W g Γ 79 [some (.ref l0), some (.int l1), some (va_rf l2), some (.int l3), some (.int l4), some (.int l5), none] [] h bc bs := by
      intro l3 l4 l5 h bc bs e
      unfold B_X1_mostEntangled_79 at e
      refine xw_inc (v := (1)) (ls' := [some (.ref l0), some (.int l1), some (va_rf l2), some (.int l3), some (.int l4), some (.int (l5 + 1)), none]) (show xm_Imp g Γ 79 (xi_inc 5 (1) 82) from xs_iinc hΓ dX1_mostEntangled_79 (by decide) (Nat.le_of_ble_eq_true rfl)) rfl rfl ?_
      refine xw_goto (show xm_Imp g Γ 82 (xi_goto 31) from xs_goto hΓ dX1_mostEntangled_82 (by decide)) ?_
      have hq := hk31 _ e; exact hq
    unfold D_X1_mostEntangled_31 at e
    refine xw_ild (show xm_Imp g Γ 31 (xi_ild 5 33) from xs_iload hΓ dX1_mostEntangled_31) rfl ?_
    refine xw_psh (v := (.int (1))) (show xm_Imp g Γ 33 (xi_psh (.int (1)) 34) from xs_iconst hΓ dX1_mostEntangled_33 (by decide)) ?_
    refine xw_ald (show xm_Imp g Γ 34 (xi_ald 0 35) from xs_aload_n hΓ dX1_mostEntangled_34) rfl ?_
    obtain ⟨_, e0, e⟩ := e
    obtain ⟨v14, e1, e⟩ := e
    refine xw_hv0 (o := (some l0)) (show xm_Imp g Γ 35 (xi_vir g 0 M_X1_qubits 1 0 38) from xs_invV hG hΓ k_X1_qubits rfl (ci := 0) rfl q1139 q1141 qs20 dX1_mostEntangled_35) rfl rfl e0 (fun Q X hQ => K_X1_qubits hG l0 _ e1 hQ) ?_
    refine xw_ii (show xm_Imp g Γ 38 (xi_ii (fun x y => x <<< (y &&& 31)) 39) from xs_ishl hΓ dX1_mostEntangled_38) ?_
    refine xw_ic (show xm_Imp g Γ 39 (xi_ic (fun x y => y ≤ x) 85 42) from xs_icmp_ge hΓ dX1_mostEntangled_39 (by decide)) (fun c => ?_) (fun c => ?_)
    · rw [if_pos c] at e
      refine xw_ild (show xm_Imp g Γ 85 (xi_ild 3 86) from xs_iload_n hΓ dX1_mostEntangled_85) rfl ?_
      exact xw_iret (show xm_Imp g Γ 86 (xi_iret .int _) from xs_ireturn hΓ rfl dX1_mostEntangled_86) (xn_int _) ⟨_, rfl, e⟩
    · rw [if_neg c] at e
      refine xw_ild (show xm_Imp g Γ 42 (xi_ild 5 44) from xs_iload hΓ dX1_mostEntangled_42) rfl ?_
      refine xw_sv1 (show xm_Imp g Γ 44 (xi_inv g M_J17_bitCount 1 1 47) from xs_invS hG hΓ k_J17_bitCount rfl q1209 q1210 dX1_mostEntangled_44) rfl (fun Q X hQ => K_J17_bitCount hG s.2.2.1 rfl hQ) ?_
      refine xw_ild (show xm_Imp g Γ 47 (xi_ild 1 48) from xs_iload_n hΓ dX1_mostEntangled_47) rfl ?_
      refine xw_ic (show xm_Imp g Γ 48 (xi_ic (fun x y => x = y) 54 51) from xs_icmp_eq hΓ dX1_mostEntangled_48 (by decide)) (fun c => ?_) (fun c => ?_)
      · rw [if_pos c] at e
        refine xw_aldo (x := l2) (show xm_Imp g Γ 54 (xi_ald 2 55) from xs_aload_n hΓ dX1_mostEntangled_54) rfl ?_
        refine xw_ild (show xm_Imp g Γ 55 (xi_ild 5 57) from xs_iload hΓ dX1_mostEntangled_55) rfl ?_
        obtain ⟨v15, e1, e⟩ := e
        refine xw_sv2 (show xm_Imp g Γ 57 (xi_inv g M_X1_entropyBy 2 2 60) from xs_invS hG hΓ k_X1_entropyBy rfl q1677 q1678 dX1_mostEntangled_57) rfl (fun Q X hQ => K_X1_entropyBy hG l2 s.2.2.1 _ e1 hQ) ?_
        refine xw_ist (ls' := [some (.ref l0), some (.int l1), some (va_rf l2), some (.int s.1), some (.int s.2.1), some (.int s.2.2.1), some (.int v15)]) (show xm_Imp g Γ 60 (xi_ist 6 62) from xs_istore hΓ dX1_mostEntangled_60 (Nat.le_of_ble_eq_true rfl)) rfl ?_
        refine xw_ild (show xm_Imp g Γ 62 (xi_ild 6 64) from xs_iload hΓ dX1_mostEntangled_62) rfl ?_
        refine xw_ild (show xm_Imp g Γ 64 (xi_ild 4 66) from xs_iload hΓ dX1_mostEntangled_64) rfl ?_
        refine xw_ic (show xm_Imp g Γ 66 (xi_ic (fun x y => y < x) 72 69) from xs_icmp_gt hΓ dX1_mostEntangled_66 (by decide)) (fun c => ?_) (fun c => ?_)
        · simp only [if_pos c] at e
          refine xw_ild (show xm_Imp g Γ 72 (xi_ild 5 74) from xs_iload hΓ dX1_mostEntangled_72) rfl ?_
          refine xw_ist (ls' := [some (.ref l0), some (.int l1), some (va_rf l2), some (.int s.2.2.1), some (.int s.2.1), some (.int s.2.2.1), some (.int v15)]) (show xm_Imp g Γ 74 (xi_ist 3 75) from xs_istore_n hΓ dX1_mostEntangled_74 (Nat.le_of_ble_eq_true rfl)) ((xm_s1_o (o := l2) rfl).trans rfl) ?_
          refine xw_ild (show xm_Imp g Γ 75 (xi_ild 6 77) from xs_iload hΓ dX1_mostEntangled_75) rfl ?_
          refine xw_ist (ls' := [some (.ref l0), some (.int l1), some (va_rf l2), some (.int s.2.2.1), some (.int v15), some (.int s.2.2.1), some (.int v15)]) (show xm_Imp g Γ 77 (xi_ist 4 79) from xs_istore hΓ dX1_mostEntangled_77 (Nat.le_of_ble_eq_true rfl)) rfl ?_
          exact xm_lx (hB_79 _ _ _ _ _ _ e) (And.intro rfl (And.intro rfl (And.intro rfl (And.intro rfl (And.intro rfl (And.intro rfl (trivial)))))))
        · simp only [if_neg c] at e
          refine xw_goto (show xm_Imp g Γ 69 (xi_goto 79) from xs_goto hΓ dX1_mostEntangled_69 (by decide)) ?_
          exact xm_lx (hB_79 _ _ _ _ _ _ e) (And.intro rfl (And.intro rfl (And.intro rfl (And.intro rfl (And.intro rfl (And.intro rfl (trivial)))))))
      · rw [if_neg c] at e
        refine xw_goto (show xm_Imp g Γ 51 (xi_goto 79) from xs_goto hΓ dX1_mostEntangled_51 (by decide)) ?_
        exact hB_79 _ _ _ _ _ _ e
  unfold F_X1_mostEntangled at e
  refine xw_ild (show xm_Imp g Γ 0 (xi_ild 1 1) from xs_iload_n hΓ dX1_mostEntangled_0) rfl ?_
  refine xw_psh (v := (.int (1))) (show xm_Imp g Γ 1 (xi_psh (.int (1)) 2) from xs_iconst hΓ dX1_mostEntangled_1 (by decide)) ?_
  refine xw_ald (show xm_Imp g Γ 2 (xi_ald 0 3) from xs_aload_n hΓ dX1_mostEntangled_2) rfl ?_
  obtain ⟨_, e0, e⟩ := e
  obtain ⟨v1, e1, e⟩ := e
  refine xw_hv0 (o := (some p0)) (show xm_Imp g Γ 3 (xi_vir g 0 M_X1_qubits 1 0 6) from xs_invV hG hΓ k_X1_qubits rfl (ci := 0) rfl q1139 q1141 qs20 dX1_mostEntangled_3) rfl rfl e0 (fun Q X hQ => K_X1_qubits hG p0 _ e1 hQ) ?_
  refine xw_sv3 (show xm_Imp g Γ 6 (xi_inv g M_X1_inRange 1 3 9) from xs_invS hG hΓ k_X1_inRange rfl q387 q388 dX1_mostEntangled_6) rfl (fun Q X hQ => K_X1_inRange hG p1 1 v1 rfl hQ) ?_
  obtain ⟨m2, m3, ⟨em1, em2⟩, e⟩ := e
  refine xw_tXsu1 (show xm_Imp g Γ 9 (xi_invX g M_X1_checkArgument 8 1 12 X) from xs_invSX hG hΓ k_X1_checkArgument rfl rfl q1868 q1869 dX1_mostEntangled_9) rfl em1 em2 (K_X1_checkArgument hG (F_X1_inRange p1 1 v1) _ _ _ e) (fun h4 e => ?_)
  refine xw_ald (show xm_Imp g Γ 12 (xi_ald 0 13) from xs_aload_n hΓ dX1_mostEntangled_12) rfl ?_
  obtain ⟨v6, e1, e⟩ := e
  refine xw_gr1 (o := (some p0)) (show xm_Imp g Γ 13 (xi_get 0 0 16) from xs_get hG hΓ (ci := 0) (kf := 0) rfl (Nat.le_of_ble_eq_true rfl) q343 dX1_mostEntangled_13) rfl e1 ?_
  obtain ⟨a7, ha7, e⟩ := e
  obtain ⟨v8, e1, e⟩ := e
  refine xw_gr1 (o := v6) (show xm_Imp g Γ 16 (xi_get 1 0 19) from xs_getN hG hΓ (ci := 1) (kf := 0) rfl (Nat.le_of_ble_eq_true rfl) q276 dX1_mostEntangled_16) ha7 e1 ?_
  obtain ⟨a9, ha9, e⟩ := e
  obtain ⟨_, e0, e⟩ := e
  obtain ⟨m10, m11, ⟨em1, em2⟩, e⟩ := e
  refine xw_tvr0 (o := v8) (show xm_Imp g Γ 19 (xi_vir g 2 M_X3_supports 10 0 22) from xs_invV hG hΓ k_X3_supports rfl (ci := 2) rfl q1668 q1669 q1670 dX1_mostEntangled_19) (by simp [xm_stk, xv_cat, xc_int, xc_long, xc_float, xc_double, xc_ref]) ha9 e0 em1 em2 (K_X3_supports hG a9 _ _ _ e) (fun v13 h12 e => ?_)
  refine xw_asto (x := v13) (ls' := [some (.ref p0), some (.int p1), some (va_rf v13), none, none, none, none]) (show xm_Imp g Γ 22 (xi_ast 2 23) from xs_astore_n hΓ dX1_mostEntangled_22 (Nat.le_of_ble_eq_true rfl)) rfl ?_
  refine xw_psh (v := (.int (-1))) (show xm_Imp g Γ 23 (xi_psh (.int (-1)) 24) from xs_iconst hΓ dX1_mostEntangled_23 (by decide)) ?_
  refine xw_ist (ls' := [some (.ref p0), some (.int p1), some (va_rf v13), some (.int (-1)), none, none, none]) (show xm_Imp g Γ 24 (xi_ist 3 25) from xs_istore_n hΓ dX1_mostEntangled_24 (Nat.le_of_ble_eq_true rfl)) ((xm_s1_o (o := v13) rfl).trans rfl) ?_
  refine xw_psh (v := (.int (-1))) (show xm_Imp g Γ 25 (xi_psh (.int (-1)) 26) from xs_iconst hΓ dX1_mostEntangled_25 (by decide)) ?_
  refine xw_ist (ls' := [some (.ref p0), some (.int p1), some (va_rf v13), some (.int (-1)), some (.int (-1)), none, none]) (show xm_Imp g Γ 26 (xi_ist 4 28) from xs_istore hΓ dX1_mostEntangled_26 (Nat.le_of_ble_eq_true rfl)) rfl ?_
  refine xw_psh (v := (.int (1))) (show xm_Imp g Γ 28 (xi_psh (.int (1)) 29) from xs_iconst hΓ dX1_mostEntangled_28 (by decide)) ?_
  refine xw_ist (ls' := [some (.ref p0), some (.int p1), some (va_rf v13), some (.int (-1)), some (.int (-1)), some (.int 1), none]) (show xm_Imp g Γ 29 (xi_ist 5 31) from xs_istore hΓ dX1_mostEntangled_29 (Nat.le_of_ble_eq_true rfl)) rfl ?_
  exact hL_31 _ _ _ _ e
noncomputable def F_X1_probability (g : xm_G) (p0 : Nat) (p1 : Int32) (h : xm_H) (bc : Nat) (bs : Nat) (Q : UInt64 → xm_H → Prop) (X : xm_X) : Prop :=
 xt_b (xh_is 0 h p0) (fun _ =>
 xt_c bc bs (fun m1 m2 => F_X1_checkMasks g p0 p1 0 h m1 m2 (fun h3 =>
 xt_b (xh_fr [(0, 0)] h3 p0) (fun v5 =>
 xt_b v5 (fun a6 =>
 xt_b (xh_fr [(1, 0)] h3 a6) (fun v7 =>
 xt_b v7 (fun a8 =>
 xt_b (xh_is 2 h3 a8) (fun _ =>
 xt_c (bc - m1) (bs - m2) (fun m9 m10 => F_X3_canonical g a8 h3 m9 m10 (fun v12 h11 =>
 xt_b (F_X1_agrees g v12 p1 h11) (fun v13 =>
 (if v13 = 0 then
 Q FP.dconst0 h11 else
 xt_b (xh_is 0 h11 p0) (fun _ =>
 xt_c ((bc - m1) - m9) ((bs - m2) - m10) (fun m14 m15 => F_X1_spread g p0 h11 m14 m15 (fun v17 h16 =>
 xt_b (xo_g (vf_n64 (FP.ddiv FP.dconst1 (FP.i2d (1 <<< (v17 &&& 31)))))) (fun u18 =>
 Q (FP.ddiv FP.dconst1 (FP.i2d (1 <<< (v17 &&& 31)))) h16)))))))))))))) X))
set_option maxHeartbeats 4000000 in
theorem K_X1_probability {g : xm_G} (hG : xm_Gw g) (p0 : Nat) (p1 : Int32) (h : xm_H) (bc : Nat) (bs : Nat) {Q : UInt64 → xm_H → Prop} {X : xm_X} (e : F_X1_probability g p0 p1 h bc bs Q X) : xm_Run g M_X1_probability 10 [.ref p0, .int p1] h bc bs (fun v h' => ∃ r, v = some (.double r) ∧ Q r h') X := by
  refine xm_Run.of pn_StringTableau (Nat.le_of_ble_eq_true rfl) (fun Γ hΓ => ?_)
  show xm_W g Γ 0 [some (.ref p0), some (.int p1)] [] h bc bs
  unfold F_X1_probability at e
  refine xw_ald (show xm_Imp g Γ 0 (xi_ald 0 1) from xs_aload_n hΓ dX1_probability_0) rfl ?_
  refine xw_ild (show xm_Imp g Γ 1 (xi_ild 1 2) from xs_iload_n hΓ dX1_probability_1) rfl ?_
  refine xw_psh (v := (.int (0))) (show xm_Imp g Γ 2 (xi_psh (.int (0)) 3) from xs_iconst hΓ dX1_probability_2 (by decide)) ?_
  obtain ⟨_, e0, e⟩ := e
  obtain ⟨m1, m2, ⟨em1, em2⟩, e⟩ := e
  refine xw_tXvu2 (o := (some p0)) (show xm_Imp g Γ 3 (xi_virX g 0 M_X1_checkMasks 9 2 6 X) from xs_invVX hG hΓ k_X1_checkMasks rfl rfl (ci := 0) rfl q1885 q1887 qs38 dX1_probability_3) rfl rfl e0 em1 em2 (K_X1_checkMasks hG p0 p1 0 _ _ _ e) (fun h3 e => ?_)
  refine xw_ald (show xm_Imp g Γ 6 (xi_ald 0 7) from xs_aload_n hΓ dX1_probability_6) rfl ?_
  obtain ⟨v5, e1, e⟩ := e
  refine xw_gr1 (o := (some p0)) (show xm_Imp g Γ 7 (xi_get 0 0 10) from xs_get hG hΓ (ci := 0) (kf := 0) rfl (Nat.le_of_ble_eq_true rfl) q343 dX1_probability_7) rfl e1 ?_
  obtain ⟨a6, ha6, e⟩ := e
  obtain ⟨v7, e1, e⟩ := e
  refine xw_gr1 (o := v5) (show xm_Imp g Γ 10 (xi_get 1 0 13) from xs_getN hG hΓ (ci := 1) (kf := 0) rfl (Nat.le_of_ble_eq_true rfl) q276 dX1_probability_10) ha6 e1 ?_
  obtain ⟨a8, ha8, e⟩ := e
  obtain ⟨_, e0, e⟩ := e
  obtain ⟨m9, m10, ⟨em1, em2⟩, e⟩ := e
  refine xw_tvr0 (o := v7) (show xm_Imp g Γ 13 (xi_vir g 2 M_X3_canonical 6 0 16) from xs_invV hG hΓ k_X3_canonical rfl (ci := 2) rfl q1602 q1603 q1604 dX1_probability_13) (by simp [xm_stk, xv_cat, xc_int, xc_long, xc_float, xc_double, xc_ref]) ha8 e0 em1 em2 (K_X3_canonical hG a8 _ _ _ e) (fun v12 h11 e => ?_)
  refine xw_ild (show xm_Imp g Γ 16 (xi_ild 1 17) from xs_iload_n hΓ dX1_probability_16) rfl ?_
  obtain ⟨v13, e1, e⟩ := e
  refine xw_sv2 (show xm_Imp g Γ 17 (xi_inv g M_X1_agrees 2 2 20) from xs_invS hG hΓ k_X1_agrees rfl q1689 q1690 dX1_probability_17) rfl (fun Q X hQ => K_X1_agrees hG v12 p1 _ e1 hQ) ?_
  refine xw_if (show xm_Imp g Γ 20 (xi_if (fun x => x = 0) 35 23) from xs_if_eq hΓ dX1_probability_20 (by decide)) (fun c => ?_) (fun c => ?_)
  · rw [if_pos c] at e
    refine xw_psh (v := (.double FP.dconst0)) (show xm_Imp g Γ 35 (xi_psh (.double FP.dconst0) 36) from xs_dconst0 hΓ dX1_probability_35) ?_
    exact xw_dret (show xm_Imp g Γ 36 (xi_dret _) from xs_dreturn hΓ rfl dX1_probability_36) ⟨_, rfl, e⟩
  · rw [if_neg c] at e
    refine xw_psh (v := (.double FP.dconst1)) (show xm_Imp g Γ 23 (xi_psh (.double FP.dconst1) 24) from xs_dconst1 hΓ dX1_probability_23) ?_
    refine xw_psh (v := (.int (1))) (show xm_Imp g Γ 24 (xi_psh (.int (1)) 25) from xs_iconst hΓ dX1_probability_24 (by decide)) ?_
    refine xw_ald (show xm_Imp g Γ 25 (xi_ald 0 26) from xs_aload_n hΓ dX1_probability_25) rfl ?_
    obtain ⟨_, e0, e⟩ := e
    obtain ⟨m14, m15, ⟨em1, em2⟩, e⟩ := e
    refine xw_tvi0 (o := (some p0)) (show xm_Imp g Γ 26 (xi_vir g 0 M_X1_spread 7 0 29) from xs_invV hG hΓ k_X1_spread rfl (ci := 0) rfl q2138 q1682 q1683 dX1_probability_26) rfl rfl e0 em1 em2 (K_X1_spread hG p0 _ _ _ e) (fun v17 h16 e => ?_)
    refine xw_ii (show xm_Imp g Γ 29 (xi_ii (fun x y => x <<< (y &&& 31)) 30) from xs_ishl hΓ dX1_probability_29) ?_
    refine xw_i2d (show xm_Imp g Γ 30 (xi_i2d 31) from xs_i2d hΓ dX1_probability_30) ?_
    obtain ⟨u18, e1, e⟩ := e
    refine xw_ddiv (show xm_Imp g Γ 31 (xi_ddiv 32) from xs_ddiv hΓ dX1_probability_31) (xo_g_s e1) ?_
    refine xw_goto (show xm_Imp g Γ 32 (xi_goto 36) from xs_goto hΓ dX1_probability_32 (by decide)) ?_
    exact xw_dret (show xm_Imp g Γ 36 (xi_dret _) from xs_dreturn hΓ rfl dX1_probability_36) ⟨_, rfl, e⟩
noncomputable def B_X1_keep_23 (g : xm_G) (l0 : Nat) (l1 : Int32) (s0 : Int32) (h : xm_H) (bc : Nat) (bs : Nat) (Q : Int32 → xm_H → Prop) (X : xm_X) : Prop :=
 xt_b (xh_fr [(0, 3)] h l0) (fun v8 =>
 xt_b (xh_fr [(0, 0)] h l0) (fun v9 =>
 xt_b v9 (fun a10 =>
 xt_b (xh_fr [(1, 0)] h a10) (fun v11 =>
 xt_b v11 (fun a12 =>
 xt_b (xh_is 2 h a12) (fun _ =>
 xt_c bc bs (fun m13 m14 => F_X3_copy g a12 h m13 m14 (fun v16 h15 =>
 xt_b v8 (fun a17 =>
 xt_b (xh_sr "StringTableau$Tableau" h15 a17 l1 v16) (fun h18 =>
 xt_b (xb_chk .boolean s0) (fun _ =>
 Q s0 h18)))))))))))
noncomputable def F_X1_keep (g : xm_G) (p0 : Nat) (p1 : Int32) (h : xm_H) (bc : Nat) (bs : Nat) (Q : Int32 → xm_H → Prop) (X : xm_X) : Prop :=
 xt_c bc bs (fun m1 m2 => F_X1_checkIndex g (F_X1_inRange p1 0 1) h m1 m2 (fun h3 =>
 xt_b (xh_fr [(0, 3)] h3 p0) (fun v5 =>
 xt_b v5 (fun a6 =>
 xt_b (xh_ar "StringTableau$Tableau" h3 a6 p1) (fun v7 =>
 B_X1_keep_23 g p0 p1 (if v7 = none then 0 else 1) h3 (bc - m1) (bs - m2) Q X)))) X)
set_option maxHeartbeats 4000000 in
theorem K_X1_keep {g : xm_G} (hG : xm_Gw g) (p0 : Nat) (p1 : Int32) (h : xm_H) (bc : Nat) (bs : Nat) {Q : Int32 → xm_H → Prop} {X : xm_X} (e : F_X1_keep g p0 p1 h bc bs Q X) : xm_Run g M_X1_keep 9 [.ref p0, .int p1] h bc bs (fun v h' => ∃ r, v = some (.int r) ∧ Q r h') X := by
  refine xm_Run.of pn_StringTableau (Nat.le_of_ble_eq_true rfl) (fun Γ hΓ => ?_)
  show xm_W g Γ 0 [some (.ref p0), some (.int p1), none] [] h bc bs
  have hB_23 : ∀ (l0 : Nat) (l1 : Int32) (s0 : Int32) (h : xm_H) (bc : Nat) (bs : Nat), B_X1_keep_23 g l0 l1 s0 h bc bs Q X → xm_W g Γ 23 [some (.ref l0), some (.int l1), none] [.int s0] h bc bs := by
    intro l0 l1 s0 h bc bs e
    unfold B_X1_keep_23 at e
    refine xw_ist (ls' := [some (.ref l0), some (.int l1), some (.int s0)]) (show xm_Imp g Γ 23 (xi_ist 2 24) from xs_istore_n hΓ dX1_keep_23 (Nat.le_of_ble_eq_true rfl)) rfl ?_
    refine xw_ald (show xm_Imp g Γ 24 (xi_ald 0 25) from xs_aload_n hΓ dX1_keep_24) rfl ?_
    obtain ⟨v8, e1, e⟩ := e
    refine xw_gr1 (o := (some l0)) (show xm_Imp g Γ 25 (xi_get 0 3 28) from xs_get hG hΓ (ci := 0) (kf := 3) rfl (Nat.le_of_ble_eq_true rfl) q348 dX1_keep_25) rfl e1 ?_
    refine xw_ild (show xm_Imp g Γ 28 (xi_ild 1 29) from xs_iload_n hΓ dX1_keep_28) rfl ?_
    refine xw_ald (show xm_Imp g Γ 29 (xi_ald 0 30) from xs_aload_n hΓ dX1_keep_29) rfl ?_
    obtain ⟨v9, e1, e⟩ := e
    refine xw_gr1 (o := (some l0)) (show xm_Imp g Γ 30 (xi_get 0 0 33) from xs_get hG hΓ (ci := 0) (kf := 0) rfl (Nat.le_of_ble_eq_true rfl) q343 dX1_keep_30) rfl e1 ?_
    obtain ⟨a10, ha10, e⟩ := e
    obtain ⟨v11, e1, e⟩ := e
    refine xw_gr1 (o := v9) (show xm_Imp g Γ 33 (xi_get 1 0 36) from xs_getN hG hΓ (ci := 1) (kf := 0) rfl (Nat.le_of_ble_eq_true rfl) q276 dX1_keep_33) ha10 e1 ?_
    obtain ⟨a12, ha12, e⟩ := e
    obtain ⟨_, e0, e⟩ := e
    obtain ⟨m13, m14, ⟨em1, em2⟩, e⟩ := e
    refine xw_tvr0 (o := v11) (show xm_Imp g Γ 36 (xi_vir g 2 M_X3_copy 4 0 39) from xs_invV hG hΓ k_X3_copy rfl (ci := 2) rfl q1948 q1300 q1301 dX1_keep_36) (by simp [xm_stk, xv_cat, xc_int, xc_long, xc_float, xc_double, xc_ref]) ha12 e0 em1 em2 (K_X3_copy hG a12 _ _ _ e) (fun v16 h15 e => ?_)
    obtain ⟨a17, ha17, e⟩ := e
    obtain ⟨h18, e1, e⟩ := e
    refine xw_haas (o := v8) (v := v16) (show xm_Imp g Γ 39 (xi_aas "StringTableau$Tableau" 40) from xs_aas hG hΓ dX1_keep_39) ha17 e1 ?_
    refine xw_ild (show xm_Imp g Γ 40 (xi_ild 2 41) from xs_iload_n hΓ dX1_keep_40) rfl ?_
    obtain ⟨_, e1, e⟩ := e
    exact xw_iret (show xm_Imp g Γ 41 (xi_iret .boolean _) from xs_ireturn hΓ rfl dX1_keep_41) (xb_of e1) ⟨_, rfl, e⟩
  unfold F_X1_keep at e
  refine xw_ild (show xm_Imp g Γ 0 (xi_ild 1 1) from xs_iload_n hΓ dX1_keep_0) rfl ?_
  refine xw_psh (v := (.int (0))) (show xm_Imp g Γ 1 (xi_psh (.int (0)) 2) from xs_iconst hΓ dX1_keep_1 (by decide)) ?_
  refine xw_psh (v := (.int (1))) (show xm_Imp g Γ 2 (xi_psh (.int (1)) 3) from xs_iconst hΓ dX1_keep_2 (by decide)) ?_
  refine xw_sv3 (show xm_Imp g Γ 3 (xi_inv g M_X1_inRange 1 3 6) from xs_invS hG hΓ k_X1_inRange rfl q387 q388 dX1_keep_3) rfl (fun Q X hQ => K_X1_inRange hG p1 0 1 rfl hQ) ?_
  obtain ⟨m1, m2, ⟨em1, em2⟩, e⟩ := e
  refine xw_tXsu1 (show xm_Imp g Γ 6 (xi_invX g M_X1_checkIndex 8 1 9 X) from xs_invSX hG hΓ k_X1_checkIndex rfl rfl q1837 q1838 dX1_keep_6) rfl em1 em2 (K_X1_checkIndex hG (F_X1_inRange p1 0 1) _ _ _ e) (fun h3 e => ?_)
  refine xw_ald (show xm_Imp g Γ 9 (xi_ald 0 10) from xs_aload_n hΓ dX1_keep_9) rfl ?_
  obtain ⟨v5, e1, e⟩ := e
  refine xw_gr1 (o := (some p0)) (show xm_Imp g Γ 10 (xi_get 0 3 13) from xs_get hG hΓ (ci := 0) (kf := 3) rfl (Nat.le_of_ble_eq_true rfl) q348 dX1_keep_10) rfl e1 ?_
  refine xw_ild (show xm_Imp g Γ 13 (xi_ild 1 14) from xs_iload_n hΓ dX1_keep_13) rfl ?_
  obtain ⟨a6, ha6, e⟩ := e
  obtain ⟨v7, e1, e⟩ := e
  refine xw_haal (o := v5) (show xm_Imp g Γ 14 (xi_aal "StringTableau$Tableau" 15) from xs_aal hG hΓ dX1_keep_14) ha6 e1 ?_
  refine xw_nul (o := v7) (show xm_Imp g Γ 15 (xi_nul 22 18) from xs_ifnull hΓ dX1_keep_15 (by decide)) (fun c => ?_) (fun c => ?_)
  · rw [if_pos c] at e
    refine xw_psh (v := (.int (0))) (show xm_Imp g Γ 22 (xi_psh (.int (0)) 23) from xs_iconst hΓ dX1_keep_22 (by decide)) ?_
    exact hB_23 _ _ _ _ _ _ e
  · rw [if_neg c] at e
    refine xw_psh (v := (.int (1))) (show xm_Imp g Γ 18 (xi_psh (.int (1)) 19) from xs_iconst hΓ dX1_keep_18 (by decide)) ?_
    refine xw_goto (show xm_Imp g Γ 19 (xi_goto 23) from xs_goto hΓ dX1_keep_19 (by decide)) ?_
    exact hB_23 _ _ _ _ _ _ e
noncomputable def F_J25_init (g : xm_G) (p0 : Nat) (h : xm_H) : Option (Unit) :=
 some ()
set_option maxHeartbeats 4000000 in
theorem K_J25_init {g : xm_G} (hG : xm_Gw g) (p0 : Nat) (h : xm_H) {o : Unit} (e : F_J25_init g p0 h = some o) {Q : xm_P} {X : xm_X} (hQ : Q none h) : xm_Run g M_J25_init 2 [.ref p0] h 0 0 Q X := by
  refine xm_Run.of pn_java_util_AbstractMap (Nat.le_of_ble_eq_true rfl) (fun Γ hΓ => ?_)
  obtain ⟨P0, hP0, hp⟩ : ∃ P : Unit → Prop, (∀ o, P o → Q none h) ∧ P o := ⟨fun o => Q none h, fun _ h => h, hQ⟩
  clear hQ
  show xm_W g Γ 0 [some (.ref p0)] [] h 0 0
  unfold F_J25_init at e
  refine xw_ald (show xm_Imp g Γ 0 (xi_ald 0 1) from xs_aload_n hΓ dJ25_init_0) rfl ?_
  refine xw_obj (o := some p0) (show xm_Imp g Γ 1 (xi_obj 4) from xs_obj hG hΓ rfl q2168 dJ25_init_1) rfl rfl ?_
  exact xw_vret (show xm_Imp g Γ 4 (xi_vret _) from xs_return hΓ rfl dJ25_init_4) (hP0 _ (xl_fin e hp))
noncomputable def F_J26_init (g : xm_G) (p0 : Nat) (h : xm_H) : Option (xm_H) :=
 xo_b (F_J25_init g p0 h) (fun v1 =>
 xo_b (xh_w [(17, 7), (18, 7)] h p0 (.float 1061158912)) (fun h2 =>
 some h2))
set_option maxHeartbeats 4000000 in
theorem K_J26_init {g : xm_G} (hG : xm_Gw g) (p0 : Nat) (h : xm_H) {o : xm_H} (e : F_J26_init g p0 h = some o) {Q : xm_P} {X : xm_X} (hQ : Q none o) : xm_Run g M_J26_init 3 [.ref p0] h 0 0 Q X := by
  refine xm_Run.of pn_java_util_HashMap (Nat.le_of_ble_eq_true rfl) (fun Γ hΓ => ?_)
  obtain ⟨P0, hP0, hp⟩ : ∃ P : xm_H → Prop, (∀ o, P o → Q none o) ∧ P o := ⟨fun o => Q none o, fun _ h => h, hQ⟩
  clear hQ
  show xm_W g Γ 0 [some (.ref p0)] [] h 0 0
  unfold F_J26_init at e
  refine xw_ald (show xm_Imp g Γ 0 (xi_ald 0 1) from xs_aload_n hΓ dJ26_init_0) rfl ?_
  obtain ⟨v1, e1, e⟩ := xo_b_s e
  refine xw_pu0 (o := (some p0)) (show xm_Imp g Γ 1 (xi_spe g M_J25_init 2 0 4) from xs_invI hG hΓ k_J25_init rfl q2165 q2166 rfl dJ26_init_1) rfl rfl (fun Q X hQ => K_J25_init hG p0 _ e1 hQ) ?_
  refine xw_ald (show xm_Imp g Γ 4 (xi_ald 0 5) from xs_aload_n hΓ dJ26_init_4) rfl ?_
  refine xw_psh (v := (.float 1061158912)) (show xm_Imp g Γ 5 (xi_psh (.float 1061158912) 7) from xs_ldcf hG hΓ q2169 dJ26_init_5) ?_
  obtain ⟨h2, e1, e⟩ := xo_b_s e
  refine xw_pt2 (o := (some p0)) (xm_or1 (show xm_Imp g Γ 7 (xi_or (xi_put 17 7 (.float) 10) (xi_put 18 7 (.float) 10)) from xs_or (xs_putF hG hΓ (ci := 17) (kf := 7) rfl (Nat.le_of_ble_eq_true rfl) rfl rfl rfl (by decide +kernel) q2180 dJ26_init_7) (xs_putF hG hΓ (ci := 18) (kf := 7) rfl (Nat.le_of_ble_eq_true rfl) rfl rfl rfl (by decide +kernel) q2180 dJ26_init_7))) (xm_or2 (show xm_Imp g Γ 7 (xi_or (xi_put 17 7 (.float) 10) (xi_put 18 7 (.float) 10)) from xs_or (xs_putF hG hΓ (ci := 17) (kf := 7) rfl (Nat.le_of_ble_eq_true rfl) rfl rfl rfl (by decide +kernel) q2180 dJ26_init_7) (xs_putF hG hΓ (ci := 18) (kf := 7) rfl (Nat.le_of_ble_eq_true rfl) rfl rfl rfl (by decide +kernel) q2180 dJ26_init_7))) rfl ⟨rfl, rfl⟩ e1 ?_
  exact xw_vret (show xm_Imp g Γ 10 (xi_vret _) from xs_return hΓ rfl dJ26_init_10) (hP0 _ (xl_fin e hp))
noncomputable def F_J27_init (g : xm_G) (p0 : Nat) (h : xm_H) : Option (xm_H) :=
 xo_b (F_J26_init g p0 h) (fun v1 =>
 xo_b (xh_w [(18, 11)] v1 p0 (.int 0)) (fun h2 =>
 xo_b (xh_w [(18, 10)] h2 p0 (.int 0)) (fun h3 =>
 some h3)))
set_option maxHeartbeats 4000000 in
theorem K_J27_init {g : xm_G} (hG : xm_Gw g) (p0 : Nat) (h : xm_H) {o : xm_H} (e : F_J27_init g p0 h = some o) {Q : xm_P} {X : xm_X} (hQ : Q none o) : xm_Run g M_J27_init 4 [.ref p0] h 0 0 Q X := by
  refine xm_Run.of pn_java_util_LinkedHashMap (Nat.le_of_ble_eq_true rfl) (fun Γ hΓ => ?_)
  obtain ⟨P0, hP0, hp⟩ : ∃ P : xm_H → Prop, (∀ o, P o → Q none o) ∧ P o := ⟨fun o => Q none o, fun _ h => h, hQ⟩
  clear hQ
  show xm_W g Γ 0 [some (.ref p0)] [] h 0 0
  unfold F_J27_init at e
  refine xw_ald (show xm_Imp g Γ 0 (xi_ald 0 1) from xs_aload_n hΓ dJ27_init_0) rfl ?_
  obtain ⟨v1, e1, e⟩ := xo_b_s e
  refine xw_pu0 (o := (some p0)) (show xm_Imp g Γ 1 (xi_spe g M_J26_init 3 0 4) from xs_invI hG hΓ k_J26_init rfl q2162 q2163 rfl dJ27_init_1) rfl rfl (fun Q X hQ => K_J26_init hG p0 _ e1 hQ) ?_
  refine xw_ald (show xm_Imp g Γ 4 (xi_ald 0 5) from xs_aload_n hΓ dJ27_init_4) rfl ?_
  refine xw_psh (v := (.int (0))) (show xm_Imp g Γ 5 (xi_psh (.int (0)) 6) from xs_iconst hΓ dJ27_init_5 (by decide)) ?_
  obtain ⟨h2, e1, e⟩ := xo_b_s e
  refine xw_pt1 (o := (some p0)) (show xm_Imp g Γ 6 (xi_put 18 11 (.int) 9) from xs_put hG hΓ (ci := 18) (kf := 11) rfl (Nat.le_of_ble_eq_true rfl) rfl (by decide +kernel) q2173 dJ27_init_6) rfl (xf_int _) e1 ?_
  refine xw_ald (show xm_Imp g Γ 9 (xi_ald 0 10) from xs_aload_n hΓ dJ27_init_9) rfl ?_
  refine xw_psh (v := (.int (0))) (show xm_Imp g Γ 10 (xi_psh (.int (0)) 11) from xs_iconst hΓ dJ27_init_10 (by decide)) ?_
  obtain ⟨h3, e1, e⟩ := xo_b_s e
  refine xw_pt1 (o := (some p0)) (show xm_Imp g Γ 11 (xi_put 18 10 (.boolean) 14) from xs_putF hG hΓ (ci := 18) (kf := 10) rfl (Nat.le_of_ble_eq_true rfl) rfl rfl rfl (by decide +kernel) q2172 dJ27_init_11) rfl ⟨rfl, rfl⟩ e1 ?_
  exact xw_vret (show xm_Imp g Γ 14 (xi_vret _) from xs_return hΓ rfl dJ27_init_14) (hP0 _ (xl_fin e hp))
noncomputable def F_X13_init (g : xm_G) (p0 : Nat) (p1 : Int32) (p2 : Int32) (h : xm_H) : Option (xm_H) :=
 xo_b (xh_w [(11, 0)] h p0 (.int p1)) (fun h1 =>
 xo_b (xh_w [(11, 1)] h1 p0 (.int p2)) (fun h2 =>
 some h2))
set_option maxHeartbeats 4000000 in
theorem K_X13_init {g : xm_G} (hG : xm_Gw g) (p0 : Nat) (p1 : Int32) (p2 : Int32) (h : xm_H) {o : xm_H} (e : F_X13_init g p0 p1 p2 h = some o) {Q : xm_P} {X : xm_X} (hQ : Q none o) : xm_Run g M_X13_init 2 [.ref p0, .int p1, .int p2] h 0 0 Q X := by
  refine xm_Run.of pn_StringTableau_Word (Nat.le_of_ble_eq_true rfl) (fun Γ hΓ => ?_)
  obtain ⟨P0, hP0, hp⟩ : ∃ P : xm_H → Prop, (∀ o, P o → Q none o) ∧ P o := ⟨fun o => Q none o, fun _ h => h, hQ⟩
  clear hQ
  show xm_W g Γ 0 [some (.ref p0), some (.int p1), some (.int p2)] [] h 0 0
  unfold F_X13_init at e
  refine xw_ald (show xm_Imp g Γ 0 (xi_ald 0 1) from xs_aload_n hΓ dX13_init_0) rfl ?_
  refine xw_obj (o := some p0) (show xm_Imp g Γ 1 (xi_obj 4) from xs_obj hG hΓ rfl q2215 dX13_init_1) rfl rfl ?_
  refine xw_ald (show xm_Imp g Γ 4 (xi_ald 0 5) from xs_aload_n hΓ dX13_init_4) rfl ?_
  refine xw_ild (show xm_Imp g Γ 5 (xi_ild 1 6) from xs_iload_n hΓ dX13_init_5) rfl ?_
  obtain ⟨h1, e1, e⟩ := xo_b_s e
  refine xw_pt1 (o := (some p0)) (show xm_Imp g Γ 6 (xi_put 11 0 (.int) 9) from xs_putF hG hΓ (ci := 11) (kf := 0) rfl (Nat.le_of_ble_eq_true rfl) rfl rfl rfl (by decide +kernel) q2216 dX13_init_6) rfl (xf_int _) e1 ?_
  refine xw_ald (show xm_Imp g Γ 9 (xi_ald 0 10) from xs_aload_n hΓ dX13_init_9) rfl ?_
  refine xw_ild (show xm_Imp g Γ 10 (xi_ild 2 11) from xs_iload_n hΓ dX13_init_10) rfl ?_
  obtain ⟨h2, e1, e⟩ := xo_b_s e
  refine xw_pt1 (o := (some p0)) (show xm_Imp g Γ 11 (xi_put 11 1 (.int) 14) from xs_putF hG hΓ (ci := 11) (kf := 1) rfl (Nat.le_of_ble_eq_true rfl) rfl rfl rfl (by decide +kernel) q2217 dX13_init_11) rfl (xf_int _) e1 ?_
  exact xw_vret (show xm_Imp g Γ 14 (xi_vret _) from xs_return hΓ rfl dX13_init_14) (hP0 _ (xl_fin e hp))
noncomputable def F_X4_word (g : xm_G) (p0 : Nat) (h : xm_H) (bc : Nat) (bs : Nat) (Q : Option Nat → xm_H → Prop) : Prop :=
 xt_new h bc bs 2 (.inr (11, [.int 0, .int 0])) (fun a1 h2 b3 b4 =>
 xt_b (xh_fi [(3, 0)] h2 p0) (fun v5 =>
 xt_b (xh_fi [(3, 1)] h2 p0) (fun v6 =>
 xt_b (F_X13_init g a1 v5 v6 h2) (fun v7 =>
 Q (some a1) v7))))
set_option maxHeartbeats 4000000 in
theorem K_X4_word {g : xm_G} (hG : xm_Gw g) (p0 : Nat) (h : xm_H) (bc : Nat) (bs : Nat) {Q : Option Nat → xm_H → Prop} (e : F_X4_word g p0 h bc bs Q) : xm_Run g M_X4_word 3 [.ref p0] h bc bs (fun v h' => ∃ r, v = some (va_rf r) ∧ Q r h') xm_no := by
  refine xm_Run.of pn_StringTableau_Row (Nat.le_of_ble_eq_true rfl) (fun Γ hΓ => ?_)
  show xm_W g Γ 0 [some (.ref p0)] [] h bc bs
  unfold F_X4_word at e
  refine xw_new (show xm_Imp g Γ 0 (xi_new 11 2 [.int 0, .int 0] 3) from xs_new hG hΓ (ci := 11) rfl q2210 q2211 q162 rfl tyX13 tyX13_ok (xm_df 2 (by decide +kernel)) dX4_word_0) e (fun a1 h2 b3 b4 e => ?_)
  refine xw_dup (show xm_Imp g Γ 3 (xi_dup 4) from xs_dup hΓ dX4_word_3) rfl ?_
  refine xw_ald (show xm_Imp g Γ 4 (xi_ald 0 5) from xs_aload_n hΓ dX4_word_4) rfl ?_
  obtain ⟨v5, e1, e⟩ := e
  refine xw_gi1 (o := (some p0)) (show xm_Imp g Γ 5 (xi_get 3 0 8) from xs_get hG hΓ (ci := 3) (kf := 0) rfl (Nat.le_of_ble_eq_true rfl) q246 dX4_word_5) rfl e1 ?_
  refine xw_ald (show xm_Imp g Γ 8 (xi_ald 0 9) from xs_aload_n hΓ dX4_word_8) rfl ?_
  obtain ⟨v6, e1, e⟩ := e
  refine xw_gi1 (o := (some p0)) (show xm_Imp g Γ 9 (xi_get 3 1 12) from xs_get hG hΓ (ci := 3) (kf := 1) rfl (Nat.le_of_ble_eq_true rfl) q251 dX4_word_9) rfl e1 ?_
  obtain ⟨v7, e1, e⟩ := e
  refine xw_pu2 (o := (some a1)) (show xm_Imp g Γ 12 (xi_spe g M_X13_init 2 2 15) from xs_invI hG hΓ k_X13_init rfl q2212 q2213 rfl dX4_word_12) rfl rfl (fun Q X hQ => K_X13_init hG a1 v5 v6 _ e1 hQ) ?_
  exact xw_aret (show xm_Imp g Γ 15 (xi_aret _) from xs_areturn hΓ rfl (Or.inl ⟨_, rfl⟩) dX4_word_15) ⟨_, rfl, e⟩
noncomputable def F_J28_valueOf (g : xm_G) (p0 : Int32) (h : xm_H) : Option (Option Nat) :=
 (if p0 = 0 then
 some (xm_sto g "java/lang/Boolean" "FALSE" "Ljava/lang/Boolean;") else
 some (xm_sto g "java/lang/Boolean" "TRUE" "Ljava/lang/Boolean;"))
set_option maxHeartbeats 4000000 in
theorem K_J28_valueOf {g : xm_G} (hG : xm_Gw g) (p0 : Int32) (h : xm_H) {o : Option Nat} (e : F_J28_valueOf g p0 h = some o) {Q : xm_P} {X : xm_X} (hQ : Q (some (va_rf o)) h) : xm_Run g M_J28_valueOf 1 [.int p0] h 0 0 Q X := by
  refine xm_Run.of pn_java_lang_Boolean (Nat.le_of_ble_eq_true rfl) (fun Γ hΓ => ?_)
  obtain ⟨P0, hP0, hp⟩ : ∃ P : Option Nat → Prop, (∀ o, P o → Q (some (va_rf o)) h) ∧ P o := ⟨fun o => Q (some (va_rf o)) h, fun _ h => h, hQ⟩
  clear hQ
  show xm_W g Γ 0 [some (.int p0)] [] h 0 0
  unfold F_J28_valueOf at e
  refine xw_ild (show xm_Imp g Γ 0 (xi_ild 0 1) from xs_iload_n hΓ dJ28_valueOf_0) rfl ?_
  refine xw_if (show xm_Imp g Γ 1 (xi_if (fun x => x = 0) 10 4) from xs_if_eq hΓ dJ28_valueOf_1 (by decide)) (fun c => ?_) (fun c => ?_)
  · rw [if_pos c] at e
    refine xw_psho (o := xm_sto g "java/lang/Boolean" "FALSE" "Ljava/lang/Boolean;") (show xm_Imp g Γ 10 (xi_psh (xm_stv g "java/lang/Boolean" "FALSE" "Ljava/lang/Boolean;") 13) from xs_gst hG hΓ (st_FALSE hG) q2229 (lw_all_tbl q163) rfl q2228 dJ28_valueOf_10) (so_FALSE hG) ?_
    have hq := hP0 _ (xl_fin e hp)
    exact xw_areto (show xm_Imp g Γ 13 (xi_aret _) from xs_areturn hΓ rfl (Or.inl ⟨_, rfl⟩) dJ28_valueOf_13) hq
  · rw [if_neg c] at e
    refine xw_psho (o := xm_sto g "java/lang/Boolean" "TRUE" "Ljava/lang/Boolean;") (show xm_Imp g Γ 4 (xi_psh (xm_stv g "java/lang/Boolean" "TRUE" "Ljava/lang/Boolean;") 7) from xs_gst hG hΓ (st_TRUE hG) q2227 (lw_all_tbl q163) rfl q2226 dJ28_valueOf_4) (so_TRUE hG) ?_
    refine xw_goto (show xm_Imp g Γ 7 (xi_goto 13) from xs_goto hΓ dJ28_valueOf_7 (by decide)) ?_
    have hq := hP0 _ (xl_fin e hp)
    exact xw_areto (show xm_Imp g Γ 13 (xi_aret _) from xs_areturn hΓ rfl (Or.inl ⟨_, rfl⟩) dJ28_valueOf_13) hq
noncomputable def F_X13_hashCode (g : xm_G) (p0 : Nat) (h : xm_H) : Option (Int32) :=
 xo_b (xh_fi [(11, 0)] h p0) (fun v1 =>
 xo_b (xh_fi [(11, 1)] h p0) (fun v2 =>
 some ((v1 <<< (8 &&& 31)) ||| v2)))
set_option maxHeartbeats 4000000 in
theorem K_X13_hashCode {g : xm_G} (hG : xm_Gw g) (p0 : Nat) (h : xm_H) {o : Int32} (e : F_X13_hashCode g p0 h = some o) {Q : xm_P} {X : xm_X} (hQ : Q (some (.int o)) h) : xm_Run g M_X13_hashCode 1 [.ref p0] h 0 0 Q X := by
  refine xm_Run.of pn_StringTableau_Word (Nat.le_of_ble_eq_true rfl) (fun Γ hΓ => ?_)
  obtain ⟨P0, hP0, hp⟩ : ∃ P : Int32 → Prop, (∀ o, P o → Q (some (.int o)) h) ∧ P o := ⟨fun o => Q (some (.int o)) h, fun _ h => h, hQ⟩
  clear hQ
  show xm_W g Γ 0 [some (.ref p0)] [] h 0 0
  unfold F_X13_hashCode at e
  refine xw_ald (show xm_Imp g Γ 0 (xi_ald 0 1) from xs_aload_n hΓ dX13_hashCode_0) rfl ?_
  obtain ⟨v1, e1, e⟩ := xo_b_s e
  refine xw_gi1 (o := (some p0)) (show xm_Imp g Γ 1 (xi_get 11 0 4) from xs_get hG hΓ (ci := 11) (kf := 0) rfl (Nat.le_of_ble_eq_true rfl) q2216 dX13_hashCode_1) rfl e1 ?_
  refine xw_psh (v := (.int (8))) (show xm_Imp g Γ 4 (xi_psh (.int (8)) 6) from xs_bipush hΓ dX13_hashCode_4 (by decide)) ?_
  refine xw_ii (show xm_Imp g Γ 6 (xi_ii (fun x y => x <<< (y &&& 31)) 7) from xs_ishl hΓ dX13_hashCode_6) ?_
  refine xw_ald (show xm_Imp g Γ 7 (xi_ald 0 8) from xs_aload_n hΓ dX13_hashCode_7) rfl ?_
  obtain ⟨v2, e1, e⟩ := xo_b_s e
  refine xw_gi1 (o := (some p0)) (show xm_Imp g Γ 8 (xi_get 11 1 11) from xs_get hG hΓ (ci := 11) (kf := 1) rfl (Nat.le_of_ble_eq_true rfl) q2217 dX13_hashCode_8) rfl e1 ?_
  refine xw_ii (show xm_Imp g Γ 11 (xi_ii (fun x y => x ||| y) 12) from xs_ior hΓ dX13_hashCode_11) ?_
  have hq := hP0 _ (xl_fin e hp)
  exact xw_iret (show xm_Imp g Γ 12 (xi_iret .int _) from xs_ireturn hΓ rfl dX13_hashCode_12) (xn_int _) hq
noncomputable def F_J26_hash (g : xm_G) (p0 : Option Nat) (h : xm_H) : Option (Int32) :=
 (if p0 = none then
 some 0 else
 xo_b p0 (fun a1 =>
 xo_b (xh_is 11 h a1) (fun _ =>
 xo_b (F_X13_hashCode g a1 h) (fun v2 =>
 some (v2 ^^^ (ja_ushr v2 16))))))
set_option maxHeartbeats 4000000 in
theorem K_J26_hash {g : xm_G} (hG : xm_Gw g) (p0 : Option Nat) (h : xm_H) {o : Int32} (e : F_J26_hash g p0 h = some o) {Q : xm_P} {X : xm_X} (hQ : Q (some (.int o)) h) : xm_Run g M_J26_hash 2 [va_rf p0] h 0 0 Q X := by
  refine xm_Run.of2 (ls := [some (va_rf p0), none]) pn_java_util_HashMap (by cases p0 <;> exact Nat.le_of_ble_eq_true rfl) (by cases p0 <;> rfl) (fun Γ hΓ => ?_)
  obtain ⟨P0, hP0, hp⟩ : ∃ P : Int32 → Prop, (∀ o, P o → Q (some (.int o)) h) ∧ P o := ⟨fun o => Q (some (.int o)) h, fun _ h => h, hQ⟩
  clear hQ
  show xm_W g Γ 0 [some (va_rf p0), none] [] h 0 0
  unfold F_J26_hash at e
  refine xw_aldo (x := p0) (show xm_Imp g Γ 0 (xi_ald 0 1) from xs_aload_n hΓ dJ26_hash_0) rfl ?_
  refine xw_nul (o := p0) (show xm_Imp g Γ 1 (xi_nul 4 8) from xs_ifnonnull hΓ dJ26_hash_1 (by decide)) (fun c => ?_) (fun c => ?_)
  · rw [if_pos c] at e
    refine xw_psh (v := (.int (0))) (show xm_Imp g Γ 4 (xi_psh (.int (0)) 5) from xs_iconst hΓ dJ26_hash_4 (by decide)) ?_
    refine xw_goto (show xm_Imp g Γ 5 (xi_goto 19) from xs_goto hΓ dJ26_hash_5 (by decide)) ?_
    have hq := hP0 _ (xl_fin e hp)
    exact xw_iret (show xm_Imp g Γ 19 (xi_iret .int _) from xs_ireturn hΓ rfl dJ26_hash_19) (xn_int _) hq
  · rw [if_neg c] at e
    refine xw_aldo (x := p0) (show xm_Imp g Γ 8 (xi_ald 0 9) from xs_aload_n hΓ dJ26_hash_8) rfl ?_
    obtain ⟨a1, ha1, e⟩ := xo_b_s e
    obtain ⟨_, e0, e⟩ := xo_b_s e
    obtain ⟨v2, e1, e⟩ := xo_b_s e
    refine xw_hv0 (o := p0) (show xm_Imp g Γ 9 (xi_vir g 11 M_X13_hashCode 1 0 12) from xs_invA hG hΓ (owner := "java/lang/Object") k_X13_hashCode rfl (ci := 11) rfl q2244 q2246 q2258 q2257 q2243 ⟨by decide, by decide⟩ (by decide +kernel) dJ26_hash_9) (by simp [xm_stk, xv_cat, xc_int, xc_long, xc_float, xc_double, xc_ref]) ha1 e0 (fun Q X hQ => K_X13_hashCode hG a1 _ e1 hQ) ?_
    refine xw_dup (show xm_Imp g Γ 12 (xi_dup 13) from xs_dup hΓ dJ26_hash_12) rfl ?_
    refine xw_ist (ls' := [some (va_rf p0), some (.int v2)]) (show xm_Imp g Γ 13 (xi_ist 1 14) from xs_istore_n hΓ dJ26_hash_13 (Nat.le_of_ble_eq_true rfl)) ((xm_s1_o (o := p0) rfl).trans rfl) ?_
    refine xw_ild (show xm_Imp g Γ 14 (xi_ild 1 15) from xs_iload_n hΓ dJ26_hash_14) rfl ?_
    refine xw_psh (v := (.int (16))) (show xm_Imp g Γ 15 (xi_psh (.int (16)) 17) from xs_bipush hΓ dJ26_hash_15 (by decide)) ?_
    refine xw_ii (show xm_Imp g Γ 17 (xi_ii (fun x y => (x.toUInt32 >>> (y.toUInt32 &&& Int32.toUInt32 31)).toInt32) 18) from xs_iushr hΓ dJ26_hash_17) ?_
    refine xw_ii (show xm_Imp g Γ 18 (xi_ii (fun x y => x ^^^ y) 19) from xs_ixor hΓ dJ26_hash_18) ?_
    have hq := hP0 _ (xl_fin e hp)
    exact xw_iret (show xm_Imp g Γ 19 (xi_iret .int _) from xs_ireturn hΓ rfl dJ26_hash_19) (xn_int _) hq
noncomputable def B_J26_resize_347 (g : xm_G) (l0 : Nat) (l1 : Option Nat) (l2 : Int32) (l4 : Int32) (l6 : Option Nat) (l7 : Int32) (h : xm_H) (bc : Nat) (bs : Nat) (k151 : Int32 × xm_H × Nat × Nat → Prop) (Q : Option Nat → xm_H → Prop) : Prop :=
 k151 ((l7 + 1), h, bc, bs)
noncomputable def B_J26_resize_327 (g : xm_G) (l0 : Nat) (l1 : Option Nat) (l2 : Int32) (l4 : Int32) (l6 : Option Nat) (l7 : Int32) (l11 : Option Nat) (l12 : Option Nat) (h : xm_H) (bc : Nat) (bs : Nat) (k151 : Int32 × xm_H × Nat × Nat → Prop) (Q : Option Nat → xm_H → Prop) : Prop :=
 (if l12 = none then
 B_J26_resize_347 g l0 l1 l2 l4 l6 l7 h bc bs k151 Q else
 xt_b l12 (fun a23 =>
 xt_b (xh_w [(19, 3), (20, 3)] h a23 (va_rf none)) (fun h24 =>
 xt_b l6 (fun a25 =>
 xt_b (xh_sr "java/util/HashMap$Node" h24 a25 (l7 + l2) l11) (fun h26 =>
 B_J26_resize_347 g l0 l1 l2 l4 l6 l7 h26 bc bs k151 Q)))))
noncomputable def B_J26_resize_301 (g : xm_G) (l0 : Nat) (l1 : Option Nat) (l2 : Int32) (l4 : Int32) (l6 : Option Nat) (l7 : Int32) (l9 : Option Nat) (l10 : Option Nat) (l11 : Option Nat) (l12 : Option Nat) (l13 : Option Nat) (h : xm_H) (bc : Nat) (bs : Nat) (k151 : Int32 × xm_H × Nat × Nat → Prop) (k235 : Option Nat × Option Nat × Option Nat × Option Nat × Option Nat × xm_H × Nat × Nat → Prop) (Q : Option Nat → xm_H → Prop) : Prop :=
 (if l13 = none then
 (if l10 = none then
 B_J26_resize_327 g l0 l1 l2 l4 l6 l7 l11 l12 h bc bs k151 Q else
 xt_b l10 (fun a27 =>
 xt_b (xh_w [(19, 3), (20, 3)] h a27 (va_rf none)) (fun h28 =>
 xt_b l6 (fun a29 =>
 xt_b (xh_sr "java/util/HashMap$Node" h28 a29 l7 l9) (fun h30 =>
 B_J26_resize_327 g l0 l1 l2 l4 l6 l7 l11 l12 h30 bc bs k151 Q))))) else
 k235 (l13, l9, l10, l11, l12, h, bc, bs))
noncomputable def B_J26_resize_271 (g : xm_G) (l0 : Nat) (l1 : Option Nat) (l2 : Int32) (l4 : Int32) (l6 : Option Nat) (l7 : Int32) (l8 : Option Nat) (l9 : Option Nat) (l11 : Option Nat) (l12 : Option Nat) (l13 : Option Nat) (h : xm_H) (bc : Nat) (bs : Nat) (k151 : Int32 × xm_H × Nat × Nat → Prop) (k235 : Option Nat × Option Nat × Option Nat × Option Nat × Option Nat × xm_H × Nat × Nat → Prop) (Q : Option Nat → xm_H → Prop) : Prop :=
 B_J26_resize_301 g l0 l1 l2 l4 l6 l7 l9 l8 l11 l12 l13 h bc bs k151 k235 Q
noncomputable def B_J26_resize_297 (g : xm_G) (l0 : Nat) (l1 : Option Nat) (l2 : Int32) (l4 : Int32) (l6 : Option Nat) (l7 : Int32) (l8 : Option Nat) (l9 : Option Nat) (l10 : Option Nat) (l11 : Option Nat) (l13 : Option Nat) (h : xm_H) (bc : Nat) (bs : Nat) (k151 : Int32 × xm_H × Nat × Nat → Prop) (k235 : Option Nat × Option Nat × Option Nat × Option Nat × Option Nat × xm_H × Nat × Nat → Prop) (Q : Option Nat → xm_H → Prop) : Prop :=
 B_J26_resize_301 g l0 l1 l2 l4 l6 l7 l9 l10 l11 l8 l13 h bc bs k151 k235 Q
noncomputable def D_J26_resize_235 (g : xm_G) (l0 : Nat) (l1 : Option Nat) (l2 : Int32) (l4 : Int32) (l6 : Option Nat) (l7 : Int32) (k151 : Int32 × xm_H × Nat × Nat → Prop) (Q : Option Nat → xm_H → Prop) (k235 : Option Nat × Option Nat × Option Nat × Option Nat × Option Nat × xm_H × Nat × Nat → Prop) (s : Option Nat × Option Nat × Option Nat × Option Nat × Option Nat × xm_H × Nat × Nat) : Prop :=
 xt_b s.1 (fun a20 =>
 xt_b (xh_fr [(19, 3), (20, 3)] s.2.2.2.2.2.1 a20) (fun v21 =>
 xt_b (xh_fi [(19, 0), (20, 0)] s.2.2.2.2.2.1 a20) (fun v22 =>
 (if (v22 &&& l2) = 0 then
 (if s.2.2.1 = none then
 B_J26_resize_271 g l0 l1 l2 l4 l6 l7 s.1 s.1 s.2.2.2.1 s.2.2.2.2.1 v21 s.2.2.2.2.2.1 s.2.2.2.2.2.2.1 s.2.2.2.2.2.2.2 k151 k235 Q else
 xt_b s.2.2.1 (fun a31 =>
 xt_b (xh_w [(19, 3), (20, 3)] s.2.2.2.2.2.1 a31 (va_rf s.1)) (fun h32 =>
 B_J26_resize_271 g l0 l1 l2 l4 l6 l7 s.1 s.2.1 s.2.2.2.1 s.2.2.2.2.1 v21 h32 s.2.2.2.2.2.2.1 s.2.2.2.2.2.2.2 k151 k235 Q))) else
 (if s.2.2.2.2.1 = none then
 B_J26_resize_297 g l0 l1 l2 l4 l6 l7 s.1 s.2.1 s.2.2.1 s.1 v21 s.2.2.2.2.2.1 s.2.2.2.2.2.2.1 s.2.2.2.2.2.2.2 k151 k235 Q else
 xt_b s.2.2.2.2.1 (fun a33 =>
 xt_b (xh_w [(19, 3), (20, 3)] s.2.2.2.2.2.1 a33 (va_rf s.1)) (fun h34 =>
 B_J26_resize_297 g l0 l1 l2 l4 l6 l7 s.1 s.2.1 s.2.2.1 s.2.2.2.1 v21 h34 s.2.2.2.2.2.2.1 s.2.2.2.2.2.2.2 k151 k235 Q)))))))
noncomputable def L_J26_resize_235 (g : xm_G) (l0 : Nat) (l1 : Option Nat) (l2 : Int32) (l4 : Int32) (l6 : Option Nat) (l7 : Int32) (k151 : Int32 × xm_H × Nat × Nat → Prop) (Q : Option Nat → xm_H → Prop) (s : Option Nat × Option Nat × Option Nat × Option Nat × Option Nat × xm_H × Nat × Nat) : Prop := xt_loop (D_J26_resize_235 g l0 l1 l2 l4 l6 l7 k151 Q) s
noncomputable def D_J26_resize_151 (g : xm_G) (l0 : Nat) (l1 : Option Nat) (l2 : Int32) (l4 : Int32) (l6 : Option Nat) (Q : Option Nat → xm_H → Prop) (k151 : Int32 × xm_H × Nat × Nat → Prop) (s : Int32 × xm_H × Nat × Nat) : Prop :=
 (if l2 ≤ s.1 then
 Q l6 s.2.1 else
 xt_b l1 (fun a11 =>
 xt_b (xh_ar "java/util/HashMap$Node" s.2.1 a11 s.1) (fun v12 =>
 (if v12 = none then
 B_J26_resize_347 g l0 l1 l2 l4 l6 s.1 s.2.1 s.2.2.1 s.2.2.2 k151 Q else
 xt_b (xh_sr "java/util/HashMap$Node" s.2.1 a11 s.1 none) (fun h13 =>
 xt_b v12 (fun a14 =>
 xt_b (xh_fr [(19, 3), (20, 3)] h13 a14) (fun v15 =>
 (if v15 = none then
 xt_b (xh_fi [(19, 0), (20, 0)] h13 a14) (fun v16 =>
 xt_b l6 (fun a17 =>
 xt_b (xh_sr "java/util/HashMap$Node" h13 a17 (v16 &&& (l4 - 1)) v12) (fun h18 =>
 B_J26_resize_347 g l0 l1 l2 l4 l6 s.1 h18 s.2.2.1 s.2.2.2 k151 Q))) else
 xt_b (xh_inst "java/util/HashMap$TreeNode" h13 v12) (fun v19 =>
 (if v19 = 0 then
 L_J26_resize_235 g l0 l1 l2 l4 l6 s.1 k151 Q (v12, none, none, none, none, h13, s.2.2.1, s.2.2.2) else
 xt_b (xh_castY "java/util/HashMap$TreeNode" h13 v12) (fun _ =>
 False)))))))))))
noncomputable def L_J26_resize_151 (g : xm_G) (l0 : Nat) (l1 : Option Nat) (l2 : Int32) (l4 : Int32) (l6 : Option Nat) (Q : Option Nat → xm_H → Prop) (s : Int32 × xm_H × Nat × Nat) : Prop := xt_loop (D_J26_resize_151 g l0 l1 l2 l4 l6 Q) s
noncomputable def B_J26_resize_85 (g : xm_G) (l0 : Nat) (l1 : Option Nat) (l2 : Int32) (l4 : Int32) (l5 : Int32) (h : xm_H) (bc : Nat) (bs : Nat) (Q : Option Nat → xm_H → Prop) : Prop :=
 (if l5 = 0 then
 xt_b (xh_fg [(17, 7), (18, 7)] h l0) (fun v3 =>
 False) else
 xt_b (xh_w [(17, 6), (18, 6)] h l0 (.int l5)) (fun h4 =>
 xt_b (xa_nat l4) (fun N9 =>
 xt_new h4 bc bs N9 (.inl (.object "java/util/HashMap$Node", N9, .inr (.inr (.inr (.inr (fun _ => none)))))) (fun a5 h6 b7 b8 =>
 xt_b (xh_w [(17, 2), (18, 2)] h6 l0 (.ref a5)) (fun h10 =>
 (if l1 = none then
 Q (some a5) h10 else
 L_J26_resize_151 g l0 l1 l2 l4 (some a5) Q (0, h10, b7, b8)))))))
noncomputable def B_J26_resize_15 (g : xm_G) (l0 : Nat) (l1 : Option Nat) (s0 : Int32) (h : xm_H) (bc : Nat) (bs : Nat) (Q : Option Nat → xm_H → Prop) : Prop :=
 xt_b (xh_fi [(17, 6), (18, 6)] h l0) (fun v2 =>
 (if s0 ≤ 0 then
 B_J26_resize_85 g l0 l1 s0 (if v2 ≤ 0 then 16 else v2) (if v2 ≤ 0 then 12 else 0) h bc bs Q else
 (if s0 < (1073741824 : Int32) then
 B_J26_resize_85 g l0 l1 s0 (s0 <<< (1 &&& 31)) (if (1073741824 : Int32) ≤ (s0 <<< (1 &&& 31)) then 0 else (if s0 < (16 : Int32) then 0 else v2 <<< (1 &&& 31))) h bc bs Q else
 xt_b (xh_w [(17, 6), (18, 6)] h l0 (.int 2147483647)) (fun h35 =>
 Q l1 h35))))
noncomputable def F_J26_resize (g : xm_G) (p0 : Nat) (h : xm_H) (bc : Nat) (bs : Nat) (Q : Option Nat → xm_H → Prop) : Prop :=
 xt_b (xh_fr [(17, 2), (18, 2)] h p0) (fun v1 =>
 (if v1 = none then
 B_J26_resize_15 g p0 v1 0 h bc bs Q else
 xt_b v1 (fun a36 =>
 xt_b (xh_len h a36) (fun v37 =>
 B_J26_resize_15 g p0 v1 v37 h bc bs Q))))
set_option maxHeartbeats 4000000 in
theorem K_J26_resize {g : xm_G} (hG : xm_Gw g) (p0 : Nat) (h : xm_H) (bc : Nat) (bs : Nat) {Q : Option Nat → xm_H → Prop} (e : F_J26_resize g p0 h bc bs Q) : xm_Run g M_J26_resize 1 [.ref p0] h bc bs (fun v h' => ∃ r, v = some (va_rf r) ∧ Q r h') xm_no := by
  refine xm_Run.of pn_java_util_HashMap (Nat.le_of_ble_eq_true rfl) (fun Γ hΓ => ?_)
  show xm_W g Γ 0 [some (.ref p0), none, none, none, none, none, none, none, none, none, none, none, none, none] [] h bc bs
  have hL_151 : ∀ (l0 : Nat) (l1 : Option Nat) (l2 : Int32) (l4 : Int32) (l6 : Option Nat) (s : Int32 × xm_H × Nat × Nat), L_J26_resize_151 g l0 l1 l2 l4 l6 Q s → xm_W g Γ 151 [some (.ref l0), some (va_rf l1), some (.int l2), none, some (.int l4), none, some (va_rf l6), some (.int s.1), none, none, none, none, none, none] [] s.2.1 s.2.2.1 s.2.2.2 := by
    intro l0 l1 l2 l4 l6
    refine xt_rule (WS := fun s : Int32 × xm_H × Nat × Nat => xm_W g Γ 151 [some (.ref l0), some (va_rf l1), some (.int l2), none, some (.int l4), none, some (va_rf l6), some (.int s.1), none, none, none, none, none, none] [] s.2.1 s.2.2.1 s.2.2.2) ?_
    intro k151 hk151 s e
    have hB_347 : ∀ (l7 : Int32) (h : xm_H) (bc : Nat) (bs : Nat), B_J26_resize_347 g l0 l1 l2 l4 l6 l7 h bc bs k151 Q → xm_W g Γ 347 [some (.ref l0), some (va_rf l1), some (.int l2), none, some (.int l4), none, some (va_rf l6), some (.int l7), none, none, none, none, none, none] [] h bc bs := by
      intro l7 h bc bs e
      unfold B_J26_resize_347 at e
      refine xw_inc (v := (1)) (ls' := [some (.ref l0), some (va_rf l1), some (.int l2), none, some (.int l4), none, some (va_rf l6), some (.int (l7 + 1)), none, none, none, none, none, none]) (show xm_Imp g Γ 347 (xi_inc 7 (1) 350) from xs_iinc hΓ dJ26_resize_347 (by decide) (Nat.le_of_ble_eq_true rfl)) rfl ((xm_s1_o (o := l6) rfl).trans rfl) ?_
      refine xw_goto (show xm_Imp g Γ 350 (xi_goto 151) from xs_goto hΓ dJ26_resize_350 (by decide)) ?_
      have hq := hk151 _ e; exact hq
    have hB_327 : ∀ (l7 : Int32) (l11 : Option Nat) (l12 : Option Nat) (h : xm_H) (bc : Nat) (bs : Nat), B_J26_resize_327 g l0 l1 l2 l4 l6 l7 l11 l12 h bc bs k151 Q → xm_W g Γ 327 [some (.ref l0), some (va_rf l1), some (.int l2), none, some (.int l4), none, some (va_rf l6), some (.int l7), none, none, none, some (va_rf l11), some (va_rf l12), none] [] h bc bs := by
      intro l7 l11 l12 h bc bs e
      unfold B_J26_resize_327 at e
      refine xw_aldo (x := l12) (show xm_Imp g Γ 327 (xi_ald 12 329) from xs_aload hΓ dJ26_resize_327) rfl ?_
      refine xw_nul (o := l12) (show xm_Imp g Γ 329 (xi_nul 347 332) from xs_ifnull hΓ dJ26_resize_329 (by decide)) (fun c => ?_) (fun c => ?_)
      · rw [if_pos c] at e
        exact xm_lx (hB_347 _ _ _ _ e) (And.intro rfl (And.intro rfl (And.intro rfl (And.intro rfl (And.intro rfl (And.intro rfl (trivial)))))))
      · rw [if_neg c] at e
        refine xw_aldo (x := l12) (show xm_Imp g Γ 332 (xi_ald 12 334) from xs_aload hΓ dJ26_resize_332) rfl ?_
        refine xw_psh (v := .null) (show xm_Imp g Γ 334 (xi_psh .null 335) from xs_null hΓ dJ26_resize_334) ?_
        obtain ⟨a23, ha23, e⟩ := e
        obtain ⟨h24, e1, e⟩ := e
        refine xw_pt2 (o := l12) (xm_or1 (show xm_Imp g Γ 335 (xi_or (xi_put 19 3 (.object "java/util/HashMap$Node") 338) (xi_put 20 3 (.object "java/util/HashMap$Node") 338)) from xs_or (xs_put hG hΓ (ci := 19) (kf := 3) rfl (Nat.le_of_ble_eq_true rfl) rfl (by decide +kernel) q2343 dJ26_resize_335) (xs_put hG hΓ (ci := 20) (kf := 3) rfl (Nat.le_of_ble_eq_true rfl) rfl (by decide +kernel) q2343 dJ26_resize_335))) (xm_or2 (show xm_Imp g Γ 335 (xi_or (xi_put 19 3 (.object "java/util/HashMap$Node") 338) (xi_put 20 3 (.object "java/util/HashMap$Node") 338)) from xs_or (xs_put hG hΓ (ci := 19) (kf := 3) rfl (Nat.le_of_ble_eq_true rfl) rfl (by decide +kernel) q2343 dJ26_resize_335) (xs_put hG hΓ (ci := 20) (kf := 3) rfl (Nat.le_of_ble_eq_true rfl) rfl (by decide +kernel) q2343 dJ26_resize_335))) ha23 (xv_fit (Or.inl ⟨_, rfl⟩) none) e1 ?_
        refine xw_aldo (x := l6) (show xm_Imp g Γ 338 (xi_ald 6 340) from xs_aload hΓ dJ26_resize_338) rfl ?_
        refine xw_ild (show xm_Imp g Γ 340 (xi_ild 7 342) from xs_iload hΓ dJ26_resize_340) rfl ?_
        refine xw_ild (show xm_Imp g Γ 342 (xi_ild 2 343) from xs_iload_n hΓ dJ26_resize_342) rfl ?_
        refine xw_ii (show xm_Imp g Γ 343 (xi_ii (fun x y => x + y) 344) from xs_iadd hΓ dJ26_resize_343) ?_
        refine xw_aldo (x := l11) (show xm_Imp g Γ 344 (xi_ald 11 346) from xs_aload hΓ dJ26_resize_344) rfl ?_
        obtain ⟨a25, ha25, e⟩ := e
        obtain ⟨h26, e1, e⟩ := e
        refine xw_haas (o := l6) (v := l11) (show xm_Imp g Γ 346 (xi_aas "java/util/HashMap$Node" 347) from xs_aas hG hΓ dJ26_resize_346) ha25 e1 ?_
        exact xm_lx (hB_347 _ _ _ _ e) (And.intro rfl (And.intro rfl (And.intro rfl (And.intro rfl (And.intro rfl (And.intro rfl (trivial)))))))
    have hL_235 : ∀ (l7 : Int32) (s : Option Nat × Option Nat × Option Nat × Option Nat × Option Nat × xm_H × Nat × Nat), L_J26_resize_235 g l0 l1 l2 l4 l6 l7 k151 Q s → xm_W g Γ 235 [some (.ref l0), some (va_rf l1), some (.int l2), none, some (.int l4), none, some (va_rf l6), some (.int l7), some (va_rf s.1), some (va_rf s.2.1), some (va_rf s.2.2.1), some (va_rf s.2.2.2.1), some (va_rf s.2.2.2.2.1), none] [] s.2.2.2.2.2.1 s.2.2.2.2.2.2.1 s.2.2.2.2.2.2.2 := by
      intro l7
      refine xt_rule (WS := fun s : Option Nat × Option Nat × Option Nat × Option Nat × Option Nat × xm_H × Nat × Nat => xm_W g Γ 235 [some (.ref l0), some (va_rf l1), some (.int l2), none, some (.int l4), none, some (va_rf l6), some (.int l7), some (va_rf s.1), some (va_rf s.2.1), some (va_rf s.2.2.1), some (va_rf s.2.2.2.1), some (va_rf s.2.2.2.2.1), none] [] s.2.2.2.2.2.1 s.2.2.2.2.2.2.1 s.2.2.2.2.2.2.2) ?_
      intro k235 hk235 s e
      have hB_301 : ∀ (l9 : Option Nat) (l10 : Option Nat) (l11 : Option Nat) (l12 : Option Nat) (l13 : Option Nat) (h : xm_H) (bc : Nat) (bs : Nat), B_J26_resize_301 g l0 l1 l2 l4 l6 l7 l9 l10 l11 l12 l13 h bc bs k151 k235 Q → xm_W g Γ 301 [some (.ref l0), some (va_rf l1), some (.int l2), none, some (.int l4), none, some (va_rf l6), some (.int l7), none, some (va_rf l9), some (va_rf l10), some (va_rf l11), some (va_rf l12), some (va_rf l13)] [] h bc bs := by
        intro l9 l10 l11 l12 l13 h bc bs e
        unfold B_J26_resize_301 at e
        refine xw_aldo (x := l13) (show xm_Imp g Γ 301 (xi_ald 13 303) from xs_aload hΓ dJ26_resize_301) rfl ?_
        refine xw_dup (show xm_Imp g Γ 303 (xi_dup 304) from xs_dup hΓ dJ26_resize_303) (xm_c1_rf l13) ?_
        refine xw_asto (x := l13) (ls' := [some (.ref l0), some (va_rf l1), some (.int l2), none, some (.int l4), none, some (va_rf l6), some (.int l7), some (va_rf l13), some (va_rf l9), some (va_rf l10), some (va_rf l11), some (va_rf l12), some (va_rf l13)]) (show xm_Imp g Γ 304 (xi_ast 8 306) from xs_astore hΓ dJ26_resize_304 (Nat.le_of_ble_eq_true rfl)) rfl ?_
        refine xw_nul (o := l13) (show xm_Imp g Γ 306 (xi_nul 309 235) from xs_ifnonnull hΓ dJ26_resize_306 (by decide)) (fun c => ?_) (fun c => ?_)
        · rw [if_pos c] at e
          refine xw_aldo (x := l10) (show xm_Imp g Γ 309 (xi_ald 10 311) from xs_aload hΓ dJ26_resize_309) rfl ?_
          refine xw_nul (o := l10) (show xm_Imp g Γ 311 (xi_nul 327 314) from xs_ifnull hΓ dJ26_resize_311 (by decide)) (fun c => ?_) (fun c => ?_)
          · rw [if_pos c] at e
            exact xm_lx (hB_327 _ _ _ _ _ _ e) (And.intro rfl (And.intro rfl (And.intro rfl (And.intro rfl (And.intro rfl (And.intro rfl (And.intro rfl (And.intro rfl (trivial)))))))))
          · rw [if_neg c] at e
            refine xw_aldo (x := l10) (show xm_Imp g Γ 314 (xi_ald 10 316) from xs_aload hΓ dJ26_resize_314) rfl ?_
            refine xw_psh (v := .null) (show xm_Imp g Γ 316 (xi_psh .null 317) from xs_null hΓ dJ26_resize_316) ?_
            obtain ⟨a27, ha27, e⟩ := e
            obtain ⟨h28, e1, e⟩ := e
            refine xw_pt2 (o := l10) (xm_or1 (show xm_Imp g Γ 317 (xi_or (xi_put 19 3 (.object "java/util/HashMap$Node") 320) (xi_put 20 3 (.object "java/util/HashMap$Node") 320)) from xs_or (xs_put hG hΓ (ci := 19) (kf := 3) rfl (Nat.le_of_ble_eq_true rfl) rfl (by decide +kernel) q2343 dJ26_resize_317) (xs_put hG hΓ (ci := 20) (kf := 3) rfl (Nat.le_of_ble_eq_true rfl) rfl (by decide +kernel) q2343 dJ26_resize_317))) (xm_or2 (show xm_Imp g Γ 317 (xi_or (xi_put 19 3 (.object "java/util/HashMap$Node") 320) (xi_put 20 3 (.object "java/util/HashMap$Node") 320)) from xs_or (xs_put hG hΓ (ci := 19) (kf := 3) rfl (Nat.le_of_ble_eq_true rfl) rfl (by decide +kernel) q2343 dJ26_resize_317) (xs_put hG hΓ (ci := 20) (kf := 3) rfl (Nat.le_of_ble_eq_true rfl) rfl (by decide +kernel) q2343 dJ26_resize_317))) ha27 (xv_fit (Or.inl ⟨_, rfl⟩) none) e1 ?_
            refine xw_aldo (x := l6) (show xm_Imp g Γ 320 (xi_ald 6 322) from xs_aload hΓ dJ26_resize_320) rfl ?_
            refine xw_ild (show xm_Imp g Γ 322 (xi_ild 7 324) from xs_iload hΓ dJ26_resize_322) rfl ?_
            refine xw_aldo (x := l9) (show xm_Imp g Γ 324 (xi_ald 9 326) from xs_aload hΓ dJ26_resize_324) rfl ?_
            obtain ⟨a29, ha29, e⟩ := e
            obtain ⟨h30, e1, e⟩ := e
            refine xw_haas (o := l6) (v := l9) (show xm_Imp g Γ 326 (xi_aas "java/util/HashMap$Node" 327) from xs_aas hG hΓ dJ26_resize_326) ha29 e1 ?_
            exact xm_lx (hB_327 _ _ _ _ _ _ e) (And.intro rfl (And.intro rfl (And.intro rfl (And.intro rfl (And.intro rfl (And.intro rfl (And.intro rfl (And.intro rfl (trivial)))))))))
        · rw [if_neg c] at e
          have hq := hk235 _ e; exact xm_lx (hq) (And.intro rfl (And.intro rfl (And.intro rfl (And.intro rfl (And.intro rfl (And.intro rfl (And.intro rfl (And.intro rfl (And.intro rfl (And.intro rfl (And.intro rfl (trivial))))))))))))
      have hB_271 : ∀ (l8 : Option Nat) (l9 : Option Nat) (l11 : Option Nat) (l12 : Option Nat) (l13 : Option Nat) (h : xm_H) (bc : Nat) (bs : Nat), B_J26_resize_271 g l0 l1 l2 l4 l6 l7 l8 l9 l11 l12 l13 h bc bs k151 k235 Q → xm_W g Γ 271 [some (.ref l0), some (va_rf l1), some (.int l2), none, some (.int l4), none, some (va_rf l6), some (.int l7), some (va_rf l8), some (va_rf l9), none, some (va_rf l11), some (va_rf l12), some (va_rf l13)] [] h bc bs := by
        intro l8 l9 l11 l12 l13 h bc bs e
        unfold B_J26_resize_271 at e
        refine xw_aldo (x := l8) (show xm_Imp g Γ 271 (xi_ald 8 273) from xs_aload hΓ dJ26_resize_271) rfl ?_
        refine xw_asto (x := l8) (ls' := [some (.ref l0), some (va_rf l1), some (.int l2), none, some (.int l4), none, some (va_rf l6), some (.int l7), some (va_rf l8), some (va_rf l9), some (va_rf l8), some (va_rf l11), some (va_rf l12), some (va_rf l13)]) (show xm_Imp g Γ 273 (xi_ast 10 275) from xs_astore hΓ dJ26_resize_273 (Nat.le_of_ble_eq_true rfl)) ((xm_s1_o (o := l9) rfl).trans rfl) ?_
        refine xw_goto (show xm_Imp g Γ 275 (xi_goto 301) from xs_goto hΓ dJ26_resize_275 (by decide)) ?_
        exact xm_lx (hB_301 _ _ _ _ _ _ _ _ e) (And.intro rfl (And.intro rfl (And.intro rfl (And.intro rfl (And.intro rfl (And.intro rfl (And.intro rfl (And.intro rfl (And.intro rfl (And.intro rfl (And.intro rfl (trivial))))))))))))
      have hB_297 : ∀ (l8 : Option Nat) (l9 : Option Nat) (l10 : Option Nat) (l11 : Option Nat) (l13 : Option Nat) (h : xm_H) (bc : Nat) (bs : Nat), B_J26_resize_297 g l0 l1 l2 l4 l6 l7 l8 l9 l10 l11 l13 h bc bs k151 k235 Q → xm_W g Γ 297 [some (.ref l0), some (va_rf l1), some (.int l2), none, some (.int l4), none, some (va_rf l6), some (.int l7), some (va_rf l8), some (va_rf l9), some (va_rf l10), some (va_rf l11), none, some (va_rf l13)] [] h bc bs := by
        intro l8 l9 l10 l11 l13 h bc bs e
        unfold B_J26_resize_297 at e
        refine xw_aldo (x := l8) (show xm_Imp g Γ 297 (xi_ald 8 299) from xs_aload hΓ dJ26_resize_297) rfl ?_
        refine xw_asto (x := l8) (ls' := [some (.ref l0), some (va_rf l1), some (.int l2), none, some (.int l4), none, some (va_rf l6), some (.int l7), some (va_rf l8), some (va_rf l9), some (va_rf l10), some (va_rf l11), some (va_rf l8), some (va_rf l13)]) (show xm_Imp g Γ 299 (xi_ast 12 301) from xs_astore hΓ dJ26_resize_299 (Nat.le_of_ble_eq_true rfl)) ((xm_s1_o (o := l11) rfl).trans rfl) ?_
        exact xm_lx (hB_301 _ _ _ _ _ _ _ _ e) (And.intro rfl (And.intro rfl (And.intro rfl (And.intro rfl (And.intro rfl (And.intro rfl (And.intro rfl (And.intro rfl (And.intro rfl (And.intro rfl (And.intro rfl (trivial))))))))))))
      unfold D_J26_resize_235 at e
      refine xw_aldo (x := s.1) (show xm_Imp g Γ 235 (xi_ald 8 237) from xs_aload hΓ dJ26_resize_235) rfl ?_
      obtain ⟨a20, ha20, e⟩ := e
      obtain ⟨v21, e1, e⟩ := e
      refine xw_gr2 (o := s.1) (xm_or1 (show xm_Imp g Γ 237 (xi_or (xi_get 19 3 240) (xi_get 20 3 240)) from xs_or (xs_get hG hΓ (ci := 19) (kf := 3) rfl (Nat.le_of_ble_eq_true rfl) q2343 dJ26_resize_237) (xs_get hG hΓ (ci := 20) (kf := 3) rfl (Nat.le_of_ble_eq_true rfl) q2343 dJ26_resize_237))) (xm_or2 (show xm_Imp g Γ 237 (xi_or (xi_get 19 3 240) (xi_get 20 3 240)) from xs_or (xs_get hG hΓ (ci := 19) (kf := 3) rfl (Nat.le_of_ble_eq_true rfl) q2343 dJ26_resize_237) (xs_get hG hΓ (ci := 20) (kf := 3) rfl (Nat.le_of_ble_eq_true rfl) q2343 dJ26_resize_237))) ha20 e1 ?_
      refine xw_asto (x := v21) (ls' := [some (.ref l0), some (va_rf l1), some (.int l2), none, some (.int l4), none, some (va_rf l6), some (.int l7), some (va_rf s.1), some (va_rf s.2.1), some (va_rf s.2.2.1), some (va_rf s.2.2.2.1), some (va_rf s.2.2.2.2.1), some (va_rf v21)]) (show xm_Imp g Γ 240 (xi_ast 13 242) from xs_astore hΓ dJ26_resize_240 (Nat.le_of_ble_eq_true rfl)) ((xm_s1_o (o := s.2.2.2.2.1) rfl).trans rfl) ?_
      refine xw_aldo (x := s.1) (show xm_Imp g Γ 242 (xi_ald 8 244) from xs_aload hΓ dJ26_resize_242) rfl ?_
      obtain ⟨v22, e1, e⟩ := e
      refine xw_gi2 (o := s.1) (xm_or1 (show xm_Imp g Γ 244 (xi_or (xi_get 19 0 247) (xi_get 20 0 247)) from xs_or (xs_get hG hΓ (ci := 19) (kf := 0) rfl (Nat.le_of_ble_eq_true rfl) q2327 dJ26_resize_244) (xs_get hG hΓ (ci := 20) (kf := 0) rfl (Nat.le_of_ble_eq_true rfl) q2327 dJ26_resize_244))) (xm_or2 (show xm_Imp g Γ 244 (xi_or (xi_get 19 0 247) (xi_get 20 0 247)) from xs_or (xs_get hG hΓ (ci := 19) (kf := 0) rfl (Nat.le_of_ble_eq_true rfl) q2327 dJ26_resize_244) (xs_get hG hΓ (ci := 20) (kf := 0) rfl (Nat.le_of_ble_eq_true rfl) q2327 dJ26_resize_244))) ha20 e1 ?_
      refine xw_ild (show xm_Imp g Γ 247 (xi_ild 2 248) from xs_iload_n hΓ dJ26_resize_247) rfl ?_
      refine xw_ii (show xm_Imp g Γ 248 (xi_ii (fun x y => x &&& y) 249) from xs_iand hΓ dJ26_resize_248) ?_
      refine xw_if (show xm_Imp g Γ 249 (xi_if (fun x => x = 0) 252 278) from xs_if_ne hΓ dJ26_resize_249 (by decide)) (fun c => ?_) (fun c => ?_)
      · rw [if_pos c] at e
        refine xw_aldo (x := s.2.2.1) (show xm_Imp g Γ 252 (xi_ald 10 254) from xs_aload hΓ dJ26_resize_252) rfl ?_
        refine xw_nul (o := s.2.2.1) (show xm_Imp g Γ 254 (xi_nul 257 264) from xs_ifnonnull hΓ dJ26_resize_254 (by decide)) (fun c => ?_) (fun c => ?_)
        · rw [if_pos c] at e
          refine xw_aldo (x := s.1) (show xm_Imp g Γ 257 (xi_ald 8 259) from xs_aload hΓ dJ26_resize_257) rfl ?_
          refine xw_asto (x := s.1) (ls' := [some (.ref l0), some (va_rf l1), some (.int l2), none, some (.int l4), none, some (va_rf l6), some (.int l7), some (va_rf s.1), some (va_rf s.1), some (va_rf s.2.2.1), some (va_rf s.2.2.2.1), some (va_rf s.2.2.2.2.1), some (va_rf v21)]) (show xm_Imp g Γ 259 (xi_ast 9 261) from xs_astore hΓ dJ26_resize_259 (Nat.le_of_ble_eq_true rfl)) ((xm_s1_o (o := s.1) rfl).trans rfl) ?_
          refine xw_goto (show xm_Imp g Γ 261 (xi_goto 271) from xs_goto hΓ dJ26_resize_261 (by decide)) ?_
          exact xm_lx (hB_271 _ _ _ _ _ _ _ _ e) (And.intro rfl (And.intro rfl (And.intro rfl (And.intro rfl (And.intro rfl (And.intro rfl (And.intro rfl (And.intro rfl (And.intro rfl (And.intro rfl (And.intro rfl (trivial))))))))))))
        · rw [if_neg c] at e
          refine xw_aldo (x := s.2.2.1) (show xm_Imp g Γ 264 (xi_ald 10 266) from xs_aload hΓ dJ26_resize_264) rfl ?_
          refine xw_aldo (x := s.1) (show xm_Imp g Γ 266 (xi_ald 8 268) from xs_aload hΓ dJ26_resize_266) rfl ?_
          obtain ⟨a31, ha31, e⟩ := e
          obtain ⟨h32, e1, e⟩ := e
          refine xw_pt2 (o := s.2.2.1) (xm_or1 (show xm_Imp g Γ 268 (xi_or (xi_put 19 3 (.object "java/util/HashMap$Node") 271) (xi_put 20 3 (.object "java/util/HashMap$Node") 271)) from xs_or (xs_put hG hΓ (ci := 19) (kf := 3) rfl (Nat.le_of_ble_eq_true rfl) rfl (by decide +kernel) q2343 dJ26_resize_268) (xs_put hG hΓ (ci := 20) (kf := 3) rfl (Nat.le_of_ble_eq_true rfl) rfl (by decide +kernel) q2343 dJ26_resize_268))) (xm_or2 (show xm_Imp g Γ 268 (xi_or (xi_put 19 3 (.object "java/util/HashMap$Node") 271) (xi_put 20 3 (.object "java/util/HashMap$Node") 271)) from xs_or (xs_put hG hΓ (ci := 19) (kf := 3) rfl (Nat.le_of_ble_eq_true rfl) rfl (by decide +kernel) q2343 dJ26_resize_268) (xs_put hG hΓ (ci := 20) (kf := 3) rfl (Nat.le_of_ble_eq_true rfl) rfl (by decide +kernel) q2343 dJ26_resize_268))) ha31 (xv_fit (Or.inl ⟨_, rfl⟩) s.1) e1 ?_
          exact xm_lx (hB_271 _ _ _ _ _ _ _ _ e) (And.intro rfl (And.intro rfl (And.intro rfl (And.intro rfl (And.intro rfl (And.intro rfl (And.intro rfl (And.intro rfl (And.intro rfl (And.intro rfl (And.intro rfl (trivial))))))))))))
      · rw [if_neg c] at e
        refine xw_aldo (x := s.2.2.2.2.1) (show xm_Imp g Γ 278 (xi_ald 12 280) from xs_aload hΓ dJ26_resize_278) rfl ?_
        refine xw_nul (o := s.2.2.2.2.1) (show xm_Imp g Γ 280 (xi_nul 283 290) from xs_ifnonnull hΓ dJ26_resize_280 (by decide)) (fun c => ?_) (fun c => ?_)
        · rw [if_pos c] at e
          refine xw_aldo (x := s.1) (show xm_Imp g Γ 283 (xi_ald 8 285) from xs_aload hΓ dJ26_resize_283) rfl ?_
          refine xw_asto (x := s.1) (ls' := [some (.ref l0), some (va_rf l1), some (.int l2), none, some (.int l4), none, some (va_rf l6), some (.int l7), some (va_rf s.1), some (va_rf s.2.1), some (va_rf s.2.2.1), some (va_rf s.1), some (va_rf s.2.2.2.2.1), some (va_rf v21)]) (show xm_Imp g Γ 285 (xi_ast 11 287) from xs_astore hΓ dJ26_resize_285 (Nat.le_of_ble_eq_true rfl)) ((xm_s1_o (o := s.2.2.1) rfl).trans rfl) ?_
          refine xw_goto (show xm_Imp g Γ 287 (xi_goto 297) from xs_goto hΓ dJ26_resize_287 (by decide)) ?_
          exact xm_lx (hB_297 _ _ _ _ _ _ _ _ e) (And.intro rfl (And.intro rfl (And.intro rfl (And.intro rfl (And.intro rfl (And.intro rfl (And.intro rfl (And.intro rfl (And.intro rfl (And.intro rfl (And.intro rfl (trivial))))))))))))
        · rw [if_neg c] at e
          refine xw_aldo (x := s.2.2.2.2.1) (show xm_Imp g Γ 290 (xi_ald 12 292) from xs_aload hΓ dJ26_resize_290) rfl ?_
          refine xw_aldo (x := s.1) (show xm_Imp g Γ 292 (xi_ald 8 294) from xs_aload hΓ dJ26_resize_292) rfl ?_
          obtain ⟨a33, ha33, e⟩ := e
          obtain ⟨h34, e1, e⟩ := e
          refine xw_pt2 (o := s.2.2.2.2.1) (xm_or1 (show xm_Imp g Γ 294 (xi_or (xi_put 19 3 (.object "java/util/HashMap$Node") 297) (xi_put 20 3 (.object "java/util/HashMap$Node") 297)) from xs_or (xs_put hG hΓ (ci := 19) (kf := 3) rfl (Nat.le_of_ble_eq_true rfl) rfl (by decide +kernel) q2343 dJ26_resize_294) (xs_put hG hΓ (ci := 20) (kf := 3) rfl (Nat.le_of_ble_eq_true rfl) rfl (by decide +kernel) q2343 dJ26_resize_294))) (xm_or2 (show xm_Imp g Γ 294 (xi_or (xi_put 19 3 (.object "java/util/HashMap$Node") 297) (xi_put 20 3 (.object "java/util/HashMap$Node") 297)) from xs_or (xs_put hG hΓ (ci := 19) (kf := 3) rfl (Nat.le_of_ble_eq_true rfl) rfl (by decide +kernel) q2343 dJ26_resize_294) (xs_put hG hΓ (ci := 20) (kf := 3) rfl (Nat.le_of_ble_eq_true rfl) rfl (by decide +kernel) q2343 dJ26_resize_294))) ha33 (xv_fit (Or.inl ⟨_, rfl⟩) s.1) e1 ?_
          exact xm_lx (hB_297 _ _ _ _ _ _ _ _ e) (And.intro rfl (And.intro rfl (And.intro rfl (And.intro rfl (And.intro rfl (And.intro rfl (And.intro rfl (And.intro rfl (And.intro rfl (And.intro rfl (And.intro rfl (trivial))))))))))))
    unfold D_J26_resize_151 at e
    refine xw_ild (show xm_Imp g Γ 151 (xi_ild 7 153) from xs_iload hΓ dJ26_resize_151) rfl ?_
    refine xw_ild (show xm_Imp g Γ 153 (xi_ild 2 154) from xs_iload_n hΓ dJ26_resize_153) rfl ?_
    refine xw_ic (show xm_Imp g Γ 154 (xi_ic (fun x y => y ≤ x) 353 157) from xs_icmp_ge hΓ dJ26_resize_154 (by decide)) (fun c => ?_) (fun c => ?_)
    · rw [if_pos c] at e
      refine xw_aldo (x := l6) (show xm_Imp g Γ 353 (xi_ald 6 355) from xs_aload hΓ dJ26_resize_353) rfl ?_
      exact xw_areto (show xm_Imp g Γ 355 (xi_aret _) from xs_areturn hΓ rfl (Or.inr ⟨_, rfl⟩) dJ26_resize_355) ⟨_, rfl, e⟩
    · rw [if_neg c] at e
      refine xw_aldo (x := l1) (show xm_Imp g Γ 157 (xi_ald 1 158) from xs_aload_n hΓ dJ26_resize_157) rfl ?_
      refine xw_ild (show xm_Imp g Γ 158 (xi_ild 7 160) from xs_iload hΓ dJ26_resize_158) rfl ?_
      obtain ⟨a11, ha11, e⟩ := e
      obtain ⟨v12, e1, e⟩ := e
      refine xw_haal (o := l1) (show xm_Imp g Γ 160 (xi_aal "java/util/HashMap$Node" 161) from xs_aal hG hΓ dJ26_resize_160) ha11 e1 ?_
      refine xw_dup (show xm_Imp g Γ 161 (xi_dup 162) from xs_dup hΓ dJ26_resize_161) (xm_c1_rf v12) ?_
      refine xw_asto (x := v12) (ls' := [some (.ref l0), some (va_rf l1), some (.int l2), none, some (.int l4), none, some (va_rf l6), some (.int s.1), some (va_rf v12), none, none, none, none, none]) (show xm_Imp g Γ 162 (xi_ast 8 164) from xs_astore hΓ dJ26_resize_162 (Nat.le_of_ble_eq_true rfl)) rfl ?_
      refine xw_nul (o := v12) (show xm_Imp g Γ 164 (xi_nul 347 167) from xs_ifnull hΓ dJ26_resize_164 (by decide)) (fun c => ?_) (fun c => ?_)
      · rw [if_pos c] at e
        exact xm_lx (hB_347 _ _ _ _ e) (And.intro rfl (And.intro rfl (And.intro rfl (And.intro rfl (And.intro rfl (And.intro rfl (trivial)))))))
      · rw [if_neg c] at e
        refine xw_aldo (x := l1) (show xm_Imp g Γ 167 (xi_ald 1 168) from xs_aload_n hΓ dJ26_resize_167) rfl ?_
        refine xw_ild (show xm_Imp g Γ 168 (xi_ild 7 170) from xs_iload hΓ dJ26_resize_168) rfl ?_
        refine xw_psh (v := .null) (show xm_Imp g Γ 170 (xi_psh .null 171) from xs_null hΓ dJ26_resize_170) ?_
        obtain ⟨h13, e1, e⟩ := e
        refine xw_haas (o := l1) (v := none) (show xm_Imp g Γ 171 (xi_aas "java/util/HashMap$Node" 172) from xs_aas hG hΓ dJ26_resize_171) ha11 e1 ?_
        refine xw_aldo (x := v12) (show xm_Imp g Γ 172 (xi_ald 8 174) from xs_aload hΓ dJ26_resize_172) rfl ?_
        obtain ⟨a14, ha14, e⟩ := e
        obtain ⟨v15, e1, e⟩ := e
        refine xw_gr2 (o := v12) (xm_or1 (show xm_Imp g Γ 174 (xi_or (xi_get 19 3 177) (xi_get 20 3 177)) from xs_or (xs_get hG hΓ (ci := 19) (kf := 3) rfl (Nat.le_of_ble_eq_true rfl) q2343 dJ26_resize_174) (xs_get hG hΓ (ci := 20) (kf := 3) rfl (Nat.le_of_ble_eq_true rfl) q2343 dJ26_resize_174))) (xm_or2 (show xm_Imp g Γ 174 (xi_or (xi_get 19 3 177) (xi_get 20 3 177)) from xs_or (xs_get hG hΓ (ci := 19) (kf := 3) rfl (Nat.le_of_ble_eq_true rfl) q2343 dJ26_resize_174) (xs_get hG hΓ (ci := 20) (kf := 3) rfl (Nat.le_of_ble_eq_true rfl) q2343 dJ26_resize_174))) ha14 e1 ?_
        refine xw_nul (o := v15) (show xm_Imp g Γ 177 (xi_nul 180 198) from xs_ifnonnull hΓ dJ26_resize_177 (by decide)) (fun c => ?_) (fun c => ?_)
        · rw [if_pos c] at e
          refine xw_aldo (x := l6) (show xm_Imp g Γ 180 (xi_ald 6 182) from xs_aload hΓ dJ26_resize_180) rfl ?_
          refine xw_aldo (x := v12) (show xm_Imp g Γ 182 (xi_ald 8 184) from xs_aload hΓ dJ26_resize_182) rfl ?_
          obtain ⟨v16, e1, e⟩ := e
          refine xw_gi2 (o := v12) (xm_or1 (show xm_Imp g Γ 184 (xi_or (xi_get 19 0 187) (xi_get 20 0 187)) from xs_or (xs_get hG hΓ (ci := 19) (kf := 0) rfl (Nat.le_of_ble_eq_true rfl) q2327 dJ26_resize_184) (xs_get hG hΓ (ci := 20) (kf := 0) rfl (Nat.le_of_ble_eq_true rfl) q2327 dJ26_resize_184))) (xm_or2 (show xm_Imp g Γ 184 (xi_or (xi_get 19 0 187) (xi_get 20 0 187)) from xs_or (xs_get hG hΓ (ci := 19) (kf := 0) rfl (Nat.le_of_ble_eq_true rfl) q2327 dJ26_resize_184) (xs_get hG hΓ (ci := 20) (kf := 0) rfl (Nat.le_of_ble_eq_true rfl) q2327 dJ26_resize_184))) ha14 e1 ?_
          refine xw_ild (show xm_Imp g Γ 187 (xi_ild 4 189) from xs_iload hΓ dJ26_resize_187) rfl ?_
          refine xw_psh (v := (.int (1))) (show xm_Imp g Γ 189 (xi_psh (.int (1)) 190) from xs_iconst hΓ dJ26_resize_189 (by decide)) ?_
          refine xw_ii (show xm_Imp g Γ 190 (xi_ii (fun x y => x - y) 191) from xs_isub hΓ dJ26_resize_190) ?_
          refine xw_ii (show xm_Imp g Γ 191 (xi_ii (fun x y => x &&& y) 192) from xs_iand hΓ dJ26_resize_191) ?_
          refine xw_aldo (x := v12) (show xm_Imp g Γ 192 (xi_ald 8 194) from xs_aload hΓ dJ26_resize_192) rfl ?_
          obtain ⟨a17, ha17, e⟩ := e
          obtain ⟨h18, e1, e⟩ := e
          refine xw_haas (o := l6) (v := v12) (show xm_Imp g Γ 194 (xi_aas "java/util/HashMap$Node" 195) from xs_aas hG hΓ dJ26_resize_194) ha17 e1 ?_
          refine xw_goto (show xm_Imp g Γ 195 (xi_goto 347) from xs_goto hΓ dJ26_resize_195 (by decide)) ?_
          exact xm_lx (hB_347 _ _ _ _ e) (And.intro rfl (And.intro rfl (And.intro rfl (And.intro rfl (And.intro rfl (And.intro rfl (trivial)))))))
        · rw [if_neg c] at e
          refine xw_aldo (x := v12) (show xm_Imp g Γ 198 (xi_ald 8 200) from xs_aload hΓ dJ26_resize_198) rfl ?_
          obtain ⟨v19, e1, e⟩ := e
          refine xw_inst (o := v12) (show xm_Imp g Γ 200 (xi_inst "java/util/HashMap$TreeNode" 203) from xs_inst hG hΓ q2294 dJ26_resize_200) e1 ?_
          refine xw_if (show xm_Imp g Γ 203 (xi_if (fun x => x = 0) 223 206) from xs_if_eq hΓ dJ26_resize_203 (by decide)) (fun c => ?_) (fun c => ?_)
          · rw [if_pos c] at e
            refine xw_psh (v := .null) (show xm_Imp g Γ 223 (xi_psh .null 224) from xs_null hΓ dJ26_resize_223) ?_
            refine xw_asto (x := none) (ls' := [some (.ref l0), some (va_rf l1), some (.int l2), none, some (.int l4), none, some (va_rf l6), some (.int s.1), some (va_rf v12), some (va_rf none), none, none, none, none]) (show xm_Imp g Γ 224 (xi_ast 9 226) from xs_astore hΓ dJ26_resize_224 (Nat.le_of_ble_eq_true rfl)) ((xm_s1_o (o := v12) rfl).trans rfl) ?_
            refine xw_psh (v := .null) (show xm_Imp g Γ 226 (xi_psh .null 227) from xs_null hΓ dJ26_resize_226) ?_
            refine xw_asto (x := none) (ls' := [some (.ref l0), some (va_rf l1), some (.int l2), none, some (.int l4), none, some (va_rf l6), some (.int s.1), some (va_rf v12), some (va_rf none), some (va_rf none), none, none, none]) (show xm_Imp g Γ 227 (xi_ast 10 229) from xs_astore hΓ dJ26_resize_227 (Nat.le_of_ble_eq_true rfl)) ((xm_s1_o (o := none) rfl).trans rfl) ?_
            refine xw_psh (v := .null) (show xm_Imp g Γ 229 (xi_psh .null 230) from xs_null hΓ dJ26_resize_229) ?_
            refine xw_asto (x := none) (ls' := [some (.ref l0), some (va_rf l1), some (.int l2), none, some (.int l4), none, some (va_rf l6), some (.int s.1), some (va_rf v12), some (va_rf none), some (va_rf none), some (va_rf none), none, none]) (show xm_Imp g Γ 230 (xi_ast 11 232) from xs_astore hΓ dJ26_resize_230 (Nat.le_of_ble_eq_true rfl)) ((xm_s1_o (o := none) rfl).trans rfl) ?_
            refine xw_psh (v := .null) (show xm_Imp g Γ 232 (xi_psh .null 233) from xs_null hΓ dJ26_resize_232) ?_
            refine xw_asto (x := none) (ls' := [some (.ref l0), some (va_rf l1), some (.int l2), none, some (.int l4), none, some (va_rf l6), some (.int s.1), some (va_rf v12), some (va_rf none), some (va_rf none), some (va_rf none), some (va_rf none), none]) (show xm_Imp g Γ 233 (xi_ast 12 235) from xs_astore hΓ dJ26_resize_233 (Nat.le_of_ble_eq_true rfl)) ((xm_s1_o (o := none) rfl).trans rfl) ?_
            exact hL_235 _ _ e
          · rw [if_neg c] at e
            refine xw_aldo (x := v12) (show xm_Imp g Γ 206 (xi_ald 8 208) from xs_aload hΓ dJ26_resize_206) rfl ?_
            obtain ⟨_, e1, e⟩ := e
            refine xw_castY (o := v12) (show xm_Imp g Γ 208 (xi_castY "java/util/HashMap$TreeNode" 211) from xs_castY hG hΓ q2294 dJ26_resize_208) e1 ?_
            refine xw_ald (show xm_Imp g Γ 211 (xi_ald 0 212) from xs_aload_n hΓ dJ26_resize_211) rfl ?_
            refine xw_aldo (x := l6) (show xm_Imp g Γ 212 (xi_ald 6 214) from xs_aload hΓ dJ26_resize_212) rfl ?_
            refine xw_ild (show xm_Imp g Γ 214 (xi_ild 7 216) from xs_iload hΓ dJ26_resize_214) rfl ?_
            refine xw_ild (show xm_Imp g Γ 216 (xi_ild 2 217) from xs_iload_n hΓ dJ26_resize_216) rfl ?_
            exact e.elim
  have hB_85 : ∀ (l0 : Nat) (l1 : Option Nat) (l2 : Int32) (l4 : Int32) (l5 : Int32) (h : xm_H) (bc : Nat) (bs : Nat), B_J26_resize_85 g l0 l1 l2 l4 l5 h bc bs Q → xm_W g Γ 85 [some (.ref l0), some (va_rf l1), some (.int l2), none, some (.int l4), some (.int l5), none, none, none, none, none, none, none, none] [] h bc bs := by
    intro l0 l1 l2 l4 l5 h bc bs e
    unfold B_J26_resize_85 at e
    refine xw_ild (show xm_Imp g Γ 85 (xi_ild 5 87) from xs_iload hΓ dJ26_resize_85) rfl ?_
    refine xw_if (show xm_Imp g Γ 87 (xi_if (fun x => x = 0) 90 125) from xs_if_ne hΓ dJ26_resize_87 (by decide)) (fun c => ?_) (fun c => ?_)
    · rw [if_pos c] at e
      refine xw_ild (show xm_Imp g Γ 90 (xi_ild 4 92) from xs_iload hΓ dJ26_resize_90) rfl ?_
      refine xw_i2f (show xm_Imp g Γ 92 (xi_i2f 93) from xs_i2f hΓ dJ26_resize_92) ?_
      refine xw_ald (show xm_Imp g Γ 93 (xi_ald 0 94) from xs_aload_n hΓ dJ26_resize_93) rfl ?_
      obtain ⟨v3, e1, e⟩ := e
      refine xw_gg2 (o := (some l0)) (xm_or1 (show xm_Imp g Γ 94 (xi_or (xi_get 17 7 97) (xi_get 18 7 97)) from xs_or (xs_get hG hΓ (ci := 17) (kf := 7) rfl (Nat.le_of_ble_eq_true rfl) q2180 dJ26_resize_94) (xs_get hG hΓ (ci := 18) (kf := 7) rfl (Nat.le_of_ble_eq_true rfl) q2180 dJ26_resize_94))) (xm_or2 (show xm_Imp g Γ 94 (xi_or (xi_get 17 7 97) (xi_get 18 7 97)) from xs_or (xs_get hG hΓ (ci := 17) (kf := 7) rfl (Nat.le_of_ble_eq_true rfl) q2180 dJ26_resize_94) (xs_get hG hΓ (ci := 18) (kf := 7) rfl (Nat.le_of_ble_eq_true rfl) q2180 dJ26_resize_94))) rfl e1 ?_
      exact e.elim
    · rw [if_neg c] at e
      refine xw_ald (show xm_Imp g Γ 125 (xi_ald 0 126) from xs_aload_n hΓ dJ26_resize_125) rfl ?_
      refine xw_ild (show xm_Imp g Γ 126 (xi_ild 5 128) from xs_iload hΓ dJ26_resize_126) rfl ?_
      obtain ⟨h4, e1, e⟩ := e
      refine xw_pt2 (o := (some l0)) (xm_or1 (show xm_Imp g Γ 128 (xi_or (xi_put 17 6 (.int) 131) (xi_put 18 6 (.int) 131)) from xs_or (xs_put hG hΓ (ci := 17) (kf := 6) rfl (Nat.le_of_ble_eq_true rfl) rfl (by decide +kernel) q2179 dJ26_resize_128) (xs_put hG hΓ (ci := 18) (kf := 6) rfl (Nat.le_of_ble_eq_true rfl) rfl (by decide +kernel) q2179 dJ26_resize_128))) (xm_or2 (show xm_Imp g Γ 128 (xi_or (xi_put 17 6 (.int) 131) (xi_put 18 6 (.int) 131)) from xs_or (xs_put hG hΓ (ci := 17) (kf := 6) rfl (Nat.le_of_ble_eq_true rfl) rfl (by decide +kernel) q2179 dJ26_resize_128) (xs_put hG hΓ (ci := 18) (kf := 6) rfl (Nat.le_of_ble_eq_true rfl) rfl (by decide +kernel) q2179 dJ26_resize_128))) rfl (xf_int _) e1 ?_
      refine xw_ild (show xm_Imp g Γ 131 (xi_ild 4 133) from xs_iload hΓ dJ26_resize_131) rfl ?_
      obtain ⟨N9, e1, e⟩ := e
      refine xw_nra (show xm_Imp g Γ 133 (xi_nra "java/util/HashMap$Node" 136) from xs_anew hG hΓ (by decide) q2292 q2293 dJ26_resize_133) e1 e (fun a5 h6 b7 b8 e => ?_)
      refine xw_ast (ls' := [some (.ref l0), some (va_rf l1), some (.int l2), none, some (.int l4), some (.int l5), some (.ref a5), none, none, none, none, none, none, none]) (show xm_Imp g Γ 136 (xi_ast 6 138) from xs_astore hΓ dJ26_resize_136 (Nat.le_of_ble_eq_true rfl)) rfl ?_
      refine xw_ald (show xm_Imp g Γ 138 (xi_ald 0 139) from xs_aload_n hΓ dJ26_resize_138) rfl ?_
      refine xw_ald (show xm_Imp g Γ 139 (xi_ald 6 141) from xs_aload hΓ dJ26_resize_139) rfl ?_
      obtain ⟨h10, e1, e⟩ := e
      refine xw_pt2 (o := (some l0)) (xm_or1 (show xm_Imp g Γ 141 (xi_or (xi_put 17 2 (.array (.object "java/util/HashMap$Node")) 144) (xi_put 18 2 (.array (.object "java/util/HashMap$Node")) 144)) from xs_or (xs_put hG hΓ (ci := 17) (kf := 2) rfl (Nat.le_of_ble_eq_true rfl) rfl (by decide +kernel) q2174 dJ26_resize_141) (xs_put hG hΓ (ci := 18) (kf := 2) rfl (Nat.le_of_ble_eq_true rfl) rfl (by decide +kernel) q2174 dJ26_resize_141))) (xm_or2 (show xm_Imp g Γ 141 (xi_or (xi_put 17 2 (.array (.object "java/util/HashMap$Node")) 144) (xi_put 18 2 (.array (.object "java/util/HashMap$Node")) 144)) from xs_or (xs_put hG hΓ (ci := 17) (kf := 2) rfl (Nat.le_of_ble_eq_true rfl) rfl (by decide +kernel) q2174 dJ26_resize_141) (xs_put hG hΓ (ci := 18) (kf := 2) rfl (Nat.le_of_ble_eq_true rfl) rfl (by decide +kernel) q2174 dJ26_resize_141))) rfl (xv_fit (Or.inr ⟨_, rfl⟩) (some a5)) e1 ?_
      refine xw_aldo (x := l1) (show xm_Imp g Γ 144 (xi_ald 1 145) from xs_aload_n hΓ dJ26_resize_144) rfl ?_
      refine xw_nul (o := l1) (show xm_Imp g Γ 145 (xi_nul 353 148) from xs_ifnull hΓ dJ26_resize_145 (by decide)) (fun c => ?_) (fun c => ?_)
      · rw [if_pos c] at e
        refine xw_ald (show xm_Imp g Γ 353 (xi_ald 6 355) from xs_aload hΓ dJ26_resize_353) rfl ?_
        exact xw_aret (show xm_Imp g Γ 355 (xi_aret _) from xs_areturn hΓ rfl (Or.inr ⟨_, rfl⟩) dJ26_resize_355) ⟨_, rfl, e⟩
      · rw [if_neg c] at e
        refine xw_psh (v := (.int (0))) (show xm_Imp g Γ 148 (xi_psh (.int (0)) 149) from xs_iconst hΓ dJ26_resize_148 (by decide)) ?_
        refine xw_ist (ls' := [some (.ref l0), some (va_rf l1), some (.int l2), none, some (.int l4), some (.int l5), some (.ref a5), some (.int 0), none, none, none, none, none, none]) (show xm_Imp g Γ 149 (xi_ist 7 151) from xs_istore hΓ dJ26_resize_149 (Nat.le_of_ble_eq_true rfl)) rfl ?_
        exact xm_lx (hL_151 _ _ _ _ _ _ e) (And.intro rfl (And.intro rfl (And.intro rfl (And.intro rfl (And.intro rfl (And.intro rfl (trivial)))))))
  have hB_15 : ∀ (l0 : Nat) (l1 : Option Nat) (s0 : Int32) (h : xm_H) (bc : Nat) (bs : Nat), B_J26_resize_15 g l0 l1 s0 h bc bs Q → xm_W g Γ 15 [some (.ref l0), some (va_rf l1), none, none, none, none, none, none, none, none, none, none, none, none] [.int s0] h bc bs := by
    intro l0 l1 s0 h bc bs e
    unfold B_J26_resize_15 at e
    refine xw_ist (ls' := [some (.ref l0), some (va_rf l1), some (.int s0), none, none, none, none, none, none, none, none, none, none, none]) (show xm_Imp g Γ 15 (xi_ist 2 16) from xs_istore_n hΓ dJ26_resize_15 (Nat.le_of_ble_eq_true rfl)) ((xm_s1_o (o := l1) rfl).trans rfl) ?_
    refine xw_ald (show xm_Imp g Γ 16 (xi_ald 0 17) from xs_aload_n hΓ dJ26_resize_16) rfl ?_
    obtain ⟨v2, e1, e⟩ := e
    refine xw_gi2 (o := (some l0)) (xm_or1 (show xm_Imp g Γ 17 (xi_or (xi_get 17 6 20) (xi_get 18 6 20)) from xs_or (xs_get hG hΓ (ci := 17) (kf := 6) rfl (Nat.le_of_ble_eq_true rfl) q2179 dJ26_resize_17) (xs_get hG hΓ (ci := 18) (kf := 6) rfl (Nat.le_of_ble_eq_true rfl) q2179 dJ26_resize_17))) (xm_or2 (show xm_Imp g Γ 17 (xi_or (xi_get 17 6 20) (xi_get 18 6 20)) from xs_or (xs_get hG hΓ (ci := 17) (kf := 6) rfl (Nat.le_of_ble_eq_true rfl) q2179 dJ26_resize_17) (xs_get hG hΓ (ci := 18) (kf := 6) rfl (Nat.le_of_ble_eq_true rfl) q2179 dJ26_resize_17))) rfl e1 ?_
    refine xw_ist (ls' := [some (.ref l0), some (va_rf l1), some (.int s0), some (.int v2), none, none, none, none, none, none, none, none, none, none]) (show xm_Imp g Γ 20 (xi_ist 3 21) from xs_istore_n hΓ dJ26_resize_20 (Nat.le_of_ble_eq_true rfl)) rfl ?_
    refine xw_psh (v := (.int (0))) (show xm_Imp g Γ 21 (xi_psh (.int (0)) 22) from xs_iconst hΓ dJ26_resize_21 (by decide)) ?_
    refine xw_ist (ls' := [some (.ref l0), some (va_rf l1), some (.int s0), some (.int v2), none, some (.int 0), none, none, none, none, none, none, none, none]) (show xm_Imp g Γ 22 (xi_ist 5 24) from xs_istore hΓ dJ26_resize_22 (Nat.le_of_ble_eq_true rfl)) rfl ?_
    refine xw_ild (show xm_Imp g Γ 24 (xi_ild 2 25) from xs_iload_n hΓ dJ26_resize_24) rfl ?_
    refine xw_if (show xm_Imp g Γ 25 (xi_if (fun x => x ≤ 0) 67 28) from xs_if_le hΓ dJ26_resize_25 (by decide)) (fun c => ?_) (fun c => ?_)
    · rw [if_pos c] at e
      refine xw_ild (show xm_Imp g Γ 67 (xi_ild 3 68) from xs_iload_n hΓ dJ26_resize_67) rfl ?_
      refine xw_if (show xm_Imp g Γ 68 (xi_if (fun x => x ≤ 0) 77 71) from xs_if_le hΓ dJ26_resize_68 (by decide)) (fun c => ?_) (fun c => ?_)
      · simp only [if_pos c] at e
        refine xw_psh (v := (.int (16))) (show xm_Imp g Γ 77 (xi_psh (.int (16)) 79) from xs_bipush hΓ dJ26_resize_77 (by decide)) ?_
        refine xw_ist (ls' := [some (.ref l0), some (va_rf l1), some (.int s0), some (.int v2), some (.int 16), some (.int 0), none, none, none, none, none, none, none, none]) (show xm_Imp g Γ 79 (xi_ist 4 81) from xs_istore hΓ dJ26_resize_79 (Nat.le_of_ble_eq_true rfl)) rfl ?_
        refine xw_psh (v := (.int (12))) (show xm_Imp g Γ 81 (xi_psh (.int (12)) 83) from xs_bipush hΓ dJ26_resize_81 (by decide)) ?_
        refine xw_ist (ls' := [some (.ref l0), some (va_rf l1), some (.int s0), some (.int v2), some (.int 16), some (.int 12), none, none, none, none, none, none, none, none]) (show xm_Imp g Γ 83 (xi_ist 5 85) from xs_istore hΓ dJ26_resize_83 (Nat.le_of_ble_eq_true rfl)) rfl ?_
        exact xm_lx (hB_85 _ _ _ _ _ _ _ _ e) (And.intro rfl (And.intro rfl (And.intro rfl (And.intro rfl (And.intro rfl (trivial))))))
      · simp only [if_neg c] at e
        refine xw_ild (show xm_Imp g Γ 71 (xi_ild 3 72) from xs_iload_n hΓ dJ26_resize_71) rfl ?_
        refine xw_ist (ls' := [some (.ref l0), some (va_rf l1), some (.int s0), some (.int v2), some (.int v2), some (.int 0), none, none, none, none, none, none, none, none]) (show xm_Imp g Γ 72 (xi_ist 4 74) from xs_istore hΓ dJ26_resize_72 (Nat.le_of_ble_eq_true rfl)) rfl ?_
        refine xw_goto (show xm_Imp g Γ 74 (xi_goto 85) from xs_goto hΓ dJ26_resize_74 (by decide)) ?_
        exact xm_lx (hB_85 _ _ _ _ _ _ _ _ e) (And.intro rfl (And.intro rfl (And.intro rfl (And.intro rfl (And.intro rfl (trivial))))))
    · rw [if_neg c] at e
      refine xw_ild (show xm_Imp g Γ 28 (xi_ild 2 29) from xs_iload_n hΓ dJ26_resize_28) rfl ?_
      refine xw_psh (v := (.int (1073741824))) (show xm_Imp g Γ 29 (xi_psh (.int (1073741824)) 31) from xs_ldc hG hΓ q2289 dJ26_resize_29) ?_
      refine xw_ic (show xm_Imp g Γ 31 (xi_ic (fun x y => x < y) 42 34) from xs_icmp_lt hΓ dJ26_resize_31 (by decide)) (fun c => ?_) (fun c => ?_)
      · rw [if_pos c] at e
        refine xw_ild (show xm_Imp g Γ 42 (xi_ild 2 43) from xs_iload_n hΓ dJ26_resize_42) rfl ?_
        refine xw_psh (v := (.int (1))) (show xm_Imp g Γ 43 (xi_psh (.int (1)) 44) from xs_iconst hΓ dJ26_resize_43 (by decide)) ?_
        refine xw_ii (show xm_Imp g Γ 44 (xi_ii (fun x y => x <<< (y &&& 31)) 45) from xs_ishl hΓ dJ26_resize_44) ?_
        refine xw_dup (show xm_Imp g Γ 45 (xi_dup 46) from xs_dup hΓ dJ26_resize_45) rfl ?_
        refine xw_ist (ls' := [some (.ref l0), some (va_rf l1), some (.int s0), some (.int v2), some (.int (s0 <<< (1 &&& 31))), some (.int 0), none, none, none, none, none, none, none, none]) (show xm_Imp g Γ 46 (xi_ist 4 48) from xs_istore hΓ dJ26_resize_46 (Nat.le_of_ble_eq_true rfl)) rfl ?_
        refine xw_psh (v := (.int (1073741824))) (show xm_Imp g Γ 48 (xi_psh (.int (1073741824)) 50) from xs_ldc hG hΓ q2289 dJ26_resize_48) ?_
        refine xw_ic (show xm_Imp g Γ 50 (xi_ic (fun x y => y ≤ x) 85 53) from xs_icmp_ge hΓ dJ26_resize_50 (by decide)) (fun c => ?_) (fun c => ?_)
        · rw [if_pos c] at e
          exact xm_lx (hB_85 _ _ _ _ _ _ _ _ e) (And.intro rfl (And.intro rfl (And.intro rfl (And.intro rfl (And.intro rfl (trivial))))))
        · rw [if_neg c] at e
          refine xw_ild (show xm_Imp g Γ 53 (xi_ild 2 54) from xs_iload_n hΓ dJ26_resize_53) rfl ?_
          refine xw_psh (v := (.int (16))) (show xm_Imp g Γ 54 (xi_psh (.int (16)) 56) from xs_bipush hΓ dJ26_resize_54 (by decide)) ?_
          refine xw_ic (show xm_Imp g Γ 56 (xi_ic (fun x y => x < y) 85 59) from xs_icmp_lt hΓ dJ26_resize_56 (by decide)) (fun c => ?_) (fun c => ?_)
          · rw [if_pos c] at e
            exact xm_lx (hB_85 _ _ _ _ _ _ _ _ e) (And.intro rfl (And.intro rfl (And.intro rfl (And.intro rfl (And.intro rfl (trivial))))))
          · rw [if_neg c] at e
            refine xw_ild (show xm_Imp g Γ 59 (xi_ild 3 60) from xs_iload_n hΓ dJ26_resize_59) rfl ?_
            refine xw_psh (v := (.int (1))) (show xm_Imp g Γ 60 (xi_psh (.int (1)) 61) from xs_iconst hΓ dJ26_resize_60 (by decide)) ?_
            refine xw_ii (show xm_Imp g Γ 61 (xi_ii (fun x y => x <<< (y &&& 31)) 62) from xs_ishl hΓ dJ26_resize_61) ?_
            refine xw_ist (ls' := [some (.ref l0), some (va_rf l1), some (.int s0), some (.int v2), some (.int (s0 <<< (1 &&& 31))), some (.int (v2 <<< (1 &&& 31))), none, none, none, none, none, none, none, none]) (show xm_Imp g Γ 62 (xi_ist 5 64) from xs_istore hΓ dJ26_resize_62 (Nat.le_of_ble_eq_true rfl)) rfl ?_
            refine xw_goto (show xm_Imp g Γ 64 (xi_goto 85) from xs_goto hΓ dJ26_resize_64 (by decide)) ?_
            exact xm_lx (hB_85 _ _ _ _ _ _ _ _ e) (And.intro rfl (And.intro rfl (And.intro rfl (And.intro rfl (And.intro rfl (trivial))))))
      · rw [if_neg c] at e
        refine xw_ald (show xm_Imp g Γ 34 (xi_ald 0 35) from xs_aload_n hΓ dJ26_resize_34) rfl ?_
        refine xw_psh (v := (.int (2147483647))) (show xm_Imp g Γ 35 (xi_psh (.int (2147483647)) 37) from xs_ldc hG hΓ q2290 dJ26_resize_35) ?_
        obtain ⟨h35, e1, e⟩ := e
        refine xw_pt2 (o := (some l0)) (xm_or1 (show xm_Imp g Γ 37 (xi_or (xi_put 17 6 (.int) 40) (xi_put 18 6 (.int) 40)) from xs_or (xs_put hG hΓ (ci := 17) (kf := 6) rfl (Nat.le_of_ble_eq_true rfl) rfl (by decide +kernel) q2179 dJ26_resize_37) (xs_put hG hΓ (ci := 18) (kf := 6) rfl (Nat.le_of_ble_eq_true rfl) rfl (by decide +kernel) q2179 dJ26_resize_37))) (xm_or2 (show xm_Imp g Γ 37 (xi_or (xi_put 17 6 (.int) 40) (xi_put 18 6 (.int) 40)) from xs_or (xs_put hG hΓ (ci := 17) (kf := 6) rfl (Nat.le_of_ble_eq_true rfl) rfl (by decide +kernel) q2179 dJ26_resize_37) (xs_put hG hΓ (ci := 18) (kf := 6) rfl (Nat.le_of_ble_eq_true rfl) rfl (by decide +kernel) q2179 dJ26_resize_37))) rfl (xf_int _) e1 ?_
        refine xw_aldo (x := l1) (show xm_Imp g Γ 40 (xi_ald 1 41) from xs_aload_n hΓ dJ26_resize_40) rfl ?_
        exact xw_areto (show xm_Imp g Γ 41 (xi_aret _) from xs_areturn hΓ rfl (Or.inr ⟨_, rfl⟩) dJ26_resize_41) ⟨_, rfl, e⟩
  unfold F_J26_resize at e
  refine xw_ald (show xm_Imp g Γ 0 (xi_ald 0 1) from xs_aload_n hΓ dJ26_resize_0) rfl ?_
  obtain ⟨v1, e1, e⟩ := e
  refine xw_gr2 (o := (some p0)) (xm_or1 (show xm_Imp g Γ 1 (xi_or (xi_get 17 2 4) (xi_get 18 2 4)) from xs_or (xs_get hG hΓ (ci := 17) (kf := 2) rfl (Nat.le_of_ble_eq_true rfl) q2174 dJ26_resize_1) (xs_get hG hΓ (ci := 18) (kf := 2) rfl (Nat.le_of_ble_eq_true rfl) q2174 dJ26_resize_1))) (xm_or2 (show xm_Imp g Γ 1 (xi_or (xi_get 17 2 4) (xi_get 18 2 4)) from xs_or (xs_get hG hΓ (ci := 17) (kf := 2) rfl (Nat.le_of_ble_eq_true rfl) q2174 dJ26_resize_1) (xs_get hG hΓ (ci := 18) (kf := 2) rfl (Nat.le_of_ble_eq_true rfl) q2174 dJ26_resize_1))) rfl e1 ?_
  refine xw_asto (x := v1) (ls' := [some (.ref p0), some (va_rf v1), none, none, none, none, none, none, none, none, none, none, none, none]) (show xm_Imp g Γ 4 (xi_ast 1 5) from xs_astore_n hΓ dJ26_resize_4 (Nat.le_of_ble_eq_true rfl)) rfl ?_
  refine xw_aldo (x := v1) (show xm_Imp g Γ 5 (xi_ald 1 6) from xs_aload_n hΓ dJ26_resize_5) rfl ?_
  refine xw_nul (o := v1) (show xm_Imp g Γ 6 (xi_nul 9 13) from xs_ifnonnull hΓ dJ26_resize_6 (by decide)) (fun c => ?_) (fun c => ?_)
  · rw [if_pos c] at e
    refine xw_psh (v := (.int (0))) (show xm_Imp g Γ 9 (xi_psh (.int (0)) 10) from xs_iconst hΓ dJ26_resize_9 (by decide)) ?_
    refine xw_goto (show xm_Imp g Γ 10 (xi_goto 15) from xs_goto hΓ dJ26_resize_10 (by decide)) ?_
    exact hB_15 _ _ _ _ _ _ e
  · rw [if_neg c] at e
    refine xw_aldo (x := v1) (show xm_Imp g Γ 13 (xi_ald 1 14) from xs_aload_n hΓ dJ26_resize_13) rfl ?_
    obtain ⟨a36, ha36, e⟩ := e
    obtain ⟨v37, e1, e⟩ := e
    refine xw_hlen (o := v1) (show xm_Imp g Γ 14 (xi_len 15) from xs_len hG hΓ dJ26_resize_14) ha36 e1 ?_
    exact hB_15 _ _ _ _ _ _ e
