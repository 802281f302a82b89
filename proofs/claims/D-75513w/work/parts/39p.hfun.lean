/-! METHODS ON KNOWN CELLS as functions (printed by gen/mkhfun.py) -/
set_option maxRecDepth 100000
noncomputable def F_X0_pulled (g : xm_G) (p0 : Option Nat) (p1 : Int32) (p2 : Int32) (p3 : Int32) (p4 : Int32) (p5 : Int32) (p6 : Option Nat) (h : xm_H) (bc : Nat) (bs : Nat) (Q : Int32 → xm_H → Prop) : Prop :=
 xt_b p0 (fun a1 =>
 xt_b (xh_is 0 h a1) (fun _ =>
 xt_c bc bs (fun m2 m3 => F_X1_pulled g a1 p1 p2 p3 p4 p5 h m2 m3 (fun v5 h4 =>
 xt_b p6 (fun a6 =>
 xt_b (xh_sl h4 a6 0 v5.toInt64) (fun h7 =>
 Q 0 h7))) (fun E8 q9 h10 => xt_h E8 [("java/lang/IndexOutOfBoundsException", Q 1 h10), ("java/lang/IllegalArgumentException", Q 2 h10), ("java/lang/IllegalStateException", Q 3 h10)]))))
set_option maxHeartbeats 4000000 in
theorem K_X0_pulled {g : xm_G} (hG : xm_Gw g) (p0 : Option Nat) (p1 : Int32) (p2 : Int32) (p3 : Int32) (p4 : Int32) (p5 : Int32) (p6 : Option Nat) (h : xm_H) (bc : Nat) (bs : Nat) {Q : Int32 → xm_H → Prop} (e : F_X0_pulled g p0 p1 p2 p3 p4 p5 p6 h bc bs Q) : xm_Run g M_X0_pulled 13 [va_rf p0, .int p1, .int p2, .int p3, .int p4, .int p5, va_rf p6] h bc bs (fun v h' => ∃ r, v = some (.int r) ∧ Q r h') xm_no := by
  refine xm_Run.of2 (ls := [some (va_rf p0), some (.int p1), some (.int p2), some (.int p3), some (.int p4), some (.int p5), some (va_rf p6), none]) pn_StringTableauLaw (by cases p0 <;> cases p6 <;> exact Nat.le_of_ble_eq_true rfl) (by cases p0 <;> cases p6 <;> rfl) (fun Γ hΓ => ?_)
  show xm_W g Γ 0 [some (va_rf p0), some (.int p1), some (.int p2), some (.int p3), some (.int p4), some (.int p5), some (va_rf p6), none] [] h bc bs
  unfold F_X0_pulled at e
  refine xw_aldo (x := p6) (show xm_Imp g Γ 0 (xi_ald 6 2) from xs_aload hΓ dX0_pulled_0) rfl ?_
  refine xw_psh (v := (.int (0))) (show xm_Imp g Γ 2 (xi_psh (.int (0)) 3) from xs_iconst hΓ dX0_pulled_2 (by decide)) ?_
  refine xw_aldo (x := p0) (show xm_Imp g Γ 3 (xi_ald 0 4) from xs_aload_n hΓ dX0_pulled_3) rfl ?_
  refine xw_ild (show xm_Imp g Γ 4 (xi_ild 1 5) from xs_iload_n hΓ dX0_pulled_4) rfl ?_
  refine xw_ild (show xm_Imp g Γ 5 (xi_ild 2 6) from xs_iload_n hΓ dX0_pulled_5) rfl ?_
  refine xw_ild (show xm_Imp g Γ 6 (xi_ild 3 7) from xs_iload_n hΓ dX0_pulled_6) rfl ?_
  refine xw_ild (show xm_Imp g Γ 7 (xi_ild 4 9) from xs_iload hΓ dX0_pulled_7) rfl ?_
  refine xw_ild (show xm_Imp g Γ 9 (xi_ild 5 11) from xs_iload hΓ dX0_pulled_9) rfl ?_
  obtain ⟨a1, ha1, e⟩ := e
  obtain ⟨_, e0, e⟩ := e
  obtain ⟨m2, m3, ⟨em1, em2⟩, e⟩ := e
  refine xw_tHvi5 (o := p0) (show xm_Imp g Γ 11 (xi_virH g 0 M_X1_pulled 12 5 14 [("java/lang/IndexOutOfBoundsException", 19), ("java/lang/IllegalArgumentException", 23), ("java/lang/IllegalStateException", 27)]) from xs_invVH hG hΓ k_X1_pulled rfl (hs0 := [("java/lang/IndexOutOfBoundsException", 19), ("java/lang/IllegalArgumentException", 23), ("java/lang/IllegalStateException", 27)]) (xm_cov1 (by decide) (by decide) q1830 (xm_cov1 (by decide) (by decide) q1858 (xm_cov1 (by decide) (by decide) q1880 (xm_covN _ _ _)))) (ci := 0) rfl q2085 q2086 q2087 dX0_pulled_11) (by simp [xm_stk, xv_cat, xc_int, xc_long, xc_float, xc_double, xc_ref]) ha1 e0 em1 em2 (K_X1_pulled hG a1 p1 p2 p3 p4 p5 _ _ _ e) (fun v5 h4 e => ?_) (fun E8 q9 h10 e => ?_)
  · refine xw_i2l (show xm_Imp g Γ 14 (xi_i2l 15) from xs_i2l hΓ dX0_pulled_14) ?_
    obtain ⟨a6, ha6, e⟩ := e
    obtain ⟨h7, e1, e⟩ := e
    refine xw_hlas (o := p6) (show xm_Imp g Γ 15 (xi_las 16) from xs_las hG hΓ dX0_pulled_15) ha6 e1 ?_
    refine xw_goto (show xm_Imp g Γ 16 (xi_goto 31) from xs_goto hΓ dX0_pulled_16 (by decide)) ?_
    refine xw_psh (v := (.int (0))) (show xm_Imp g Γ 31 (xi_psh (.int (0)) 32) from xs_iconst hΓ dX0_pulled_31 (by decide)) ?_
    exact xw_iret (show xm_Imp g Γ 32 (xi_iret .int _) from xs_ireturn hΓ rfl dX0_pulled_32) (xn_int _) ⟨_, rfl, e⟩
  rcases e with ⟨ec, e⟩ | ⟨ec, e⟩
  · refine Or.inl ⟨ec, ?_⟩
    refine xw_ast (ls' := [some (va_rf p0), some (.int p1), some (.int p2), some (.int p3), some (.int p4), some (.int p5), some (va_rf p6), some (.ref q9)]) (show xm_Imp g Γ 19 (xi_ast 7 21) from xs_astore hΓ dX0_pulled_19 (Nat.le_of_ble_eq_true rfl)) ((xm_s1_o (o := p6) rfl).trans rfl) ?_
    refine xw_psh (v := (.int (1))) (show xm_Imp g Γ 21 (xi_psh (.int (1)) 22) from xs_iconst hΓ dX0_pulled_21 (by decide)) ?_
    exact xw_iret (show xm_Imp g Γ 22 (xi_iret .int _) from xs_ireturn hΓ rfl dX0_pulled_22) (xn_int _) ⟨_, rfl, e⟩
  refine Or.inr ⟨ec, ?_⟩
  rcases e with ⟨ec, e⟩ | ⟨ec, e⟩
  · refine Or.inl ⟨ec, ?_⟩
    refine xw_ast (ls' := [some (va_rf p0), some (.int p1), some (.int p2), some (.int p3), some (.int p4), some (.int p5), some (va_rf p6), some (.ref q9)]) (show xm_Imp g Γ 23 (xi_ast 7 25) from xs_astore hΓ dX0_pulled_23 (Nat.le_of_ble_eq_true rfl)) ((xm_s1_o (o := p6) rfl).trans rfl) ?_
    refine xw_psh (v := (.int (2))) (show xm_Imp g Γ 25 (xi_psh (.int (2)) 26) from xs_iconst hΓ dX0_pulled_25 (by decide)) ?_
    exact xw_iret (show xm_Imp g Γ 26 (xi_iret .int _) from xs_ireturn hΓ rfl dX0_pulled_26) (xn_int _) ⟨_, rfl, e⟩
  refine Or.inr ⟨ec, ?_⟩
  rcases e with ⟨ec, e⟩ | ⟨ec, e⟩
  · refine Or.inl ⟨ec, ?_⟩
    refine xw_ast (ls' := [some (va_rf p0), some (.int p1), some (.int p2), some (.int p3), some (.int p4), some (.int p5), some (va_rf p6), some (.ref q9)]) (show xm_Imp g Γ 27 (xi_ast 7 29) from xs_astore hΓ dX0_pulled_27 (Nat.le_of_ble_eq_true rfl)) ((xm_s1_o (o := p6) rfl).trans rfl) ?_
    refine xw_psh (v := (.int (3))) (show xm_Imp g Γ 29 (xi_psh (.int (3)) 30) from xs_iconst hΓ dX0_pulled_29 (by decide)) ?_
    exact xw_iret (show xm_Imp g Γ 30 (xi_iret .int _) from xs_ireturn hΓ rfl dX0_pulled_30) (xn_int _) ⟨_, rfl, e⟩
  refine Or.inr ⟨ec, ?_⟩
  exact e.elim
noncomputable def F_X0_partner (g : xm_G) (p0 : Option Nat) (p1 : Int32) (p2 : Int32) (p3 : Option Nat) (h : xm_H) (bc : Nat) (bs : Nat) (Q : Int32 → xm_H → Prop) : Prop :=
 xt_b p0 (fun a1 =>
 xt_b (xh_is 0 h a1) (fun _ =>
 xt_c bc bs (fun m2 m3 => F_X1_partner g a1 p1 p2 h m2 m3 (fun v5 h4 =>
 xt_b p3 (fun a6 =>
 xt_b (xh_sl h4 a6 0 v5.toInt64) (fun h7 =>
 Q 0 h7))) (fun E8 q9 h10 => xt_h E8 [("java/lang/IndexOutOfBoundsException", Q 1 h10)]))))
set_option maxHeartbeats 4000000 in
theorem K_X0_partner {g : xm_G} (hG : xm_Gw g) (p0 : Option Nat) (p1 : Int32) (p2 : Int32) (p3 : Option Nat) (h : xm_H) (bc : Nat) (bs : Nat) {Q : Int32 → xm_H → Prop} (e : F_X0_partner g p0 p1 p2 p3 h bc bs Q) : xm_Run g M_X0_partner 11 [va_rf p0, .int p1, .int p2, va_rf p3] h bc bs (fun v h' => ∃ r, v = some (.int r) ∧ Q r h') xm_no := by
  refine xm_Run.of2 (ls := [some (va_rf p0), some (.int p1), some (.int p2), some (va_rf p3), none]) pn_StringTableauLaw (by cases p0 <;> cases p3 <;> exact Nat.le_of_ble_eq_true rfl) (by cases p0 <;> cases p3 <;> rfl) (fun Γ hΓ => ?_)
  show xm_W g Γ 0 [some (va_rf p0), some (.int p1), some (.int p2), some (va_rf p3), none] [] h bc bs
  unfold F_X0_partner at e
  refine xw_aldo (x := p3) (show xm_Imp g Γ 0 (xi_ald 3 1) from xs_aload_n hΓ dX0_partner_0) rfl ?_
  refine xw_psh (v := (.int (0))) (show xm_Imp g Γ 1 (xi_psh (.int (0)) 2) from xs_iconst hΓ dX0_partner_1 (by decide)) ?_
  refine xw_aldo (x := p0) (show xm_Imp g Γ 2 (xi_ald 0 3) from xs_aload_n hΓ dX0_partner_2) rfl ?_
  refine xw_ild (show xm_Imp g Γ 3 (xi_ild 1 4) from xs_iload_n hΓ dX0_partner_3) rfl ?_
  refine xw_ild (show xm_Imp g Γ 4 (xi_ild 2 5) from xs_iload_n hΓ dX0_partner_4) rfl ?_
  obtain ⟨a1, ha1, e⟩ := e
  obtain ⟨_, e0, e⟩ := e
  obtain ⟨m2, m3, ⟨em1, em2⟩, e⟩ := e
  refine xw_tHvi2 (o := p0) (show xm_Imp g Γ 5 (xi_virH g 0 M_X1_partner 10 2 8 [("java/lang/IndexOutOfBoundsException", 13)]) from xs_invVH hG hΓ k_X1_partner rfl (hs0 := [("java/lang/IndexOutOfBoundsException", 13)]) (xm_cov1 (by decide) (by decide) q1830 (xm_covN _ _ _)) (ci := 0) rfl q2092 q2093 q2094 dX0_partner_5) (by simp [xm_stk, xv_cat, xc_int, xc_long, xc_float, xc_double, xc_ref]) ha1 e0 em1 em2 (K_X1_partner hG a1 p1 p2 _ _ _ e) (fun v5 h4 e => ?_) (fun E8 q9 h10 e => ?_)
  · refine xw_i2l (show xm_Imp g Γ 8 (xi_i2l 9) from xs_i2l hΓ dX0_partner_8) ?_
    obtain ⟨a6, ha6, e⟩ := e
    obtain ⟨h7, e1, e⟩ := e
    refine xw_hlas (o := p3) (show xm_Imp g Γ 9 (xi_las 10) from xs_las hG hΓ dX0_partner_9) ha6 e1 ?_
    refine xw_goto (show xm_Imp g Γ 10 (xi_goto 17) from xs_goto hΓ dX0_partner_10 (by decide)) ?_
    refine xw_psh (v := (.int (0))) (show xm_Imp g Γ 17 (xi_psh (.int (0)) 18) from xs_iconst hΓ dX0_partner_17 (by decide)) ?_
    exact xw_iret (show xm_Imp g Γ 18 (xi_iret .int _) from xs_ireturn hΓ rfl dX0_partner_18) (xn_int _) ⟨_, rfl, e⟩
  rcases e with ⟨ec, e⟩ | ⟨ec, e⟩
  · refine Or.inl ⟨ec, ?_⟩
    refine xw_ast (ls' := [some (va_rf p0), some (.int p1), some (.int p2), some (va_rf p3), some (.ref q9)]) (show xm_Imp g Γ 13 (xi_ast 4 15) from xs_astore hΓ dX0_partner_13 (Nat.le_of_ble_eq_true rfl)) ((xm_s1_o (o := p3) rfl).trans rfl) ?_
    refine xw_psh (v := (.int (1))) (show xm_Imp g Γ 15 (xi_psh (.int (1)) 16) from xs_iconst hΓ dX0_partner_15 (by decide)) ?_
    exact xw_iret (show xm_Imp g Γ 16 (xi_iret .int _) from xs_ireturn hΓ rfl dX0_partner_16) (xn_int _) ⟨_, rfl, e⟩
  refine Or.inr ⟨ec, ?_⟩
  exact e.elim
noncomputable def F_X0_entropy (g : xm_G) (p0 : Option Nat) (p1 : Int32) (p2 : Option Nat) (h : xm_H) (bc : Nat) (bs : Nat) (Q : Int32 → xm_H → Prop) : Prop :=
 xt_b p0 (fun a1 =>
 xt_b (xh_is 0 h a1) (fun _ =>
 xt_c bc bs (fun m2 m3 => F_X1_entropy g a1 p1 h m2 m3 (fun v5 h4 =>
 xt_b p2 (fun a6 =>
 xt_b (xh_sl h4 a6 0 v5.toInt64) (fun h7 =>
 Q 0 h7))) (fun E8 q9 h10 => xt_h E8 [("java/lang/IllegalArgumentException", Q 1 h10)]))))
set_option maxHeartbeats 4000000 in
theorem K_X0_entropy {g : xm_G} (hG : xm_Gw g) (p0 : Option Nat) (p1 : Int32) (p2 : Option Nat) (h : xm_H) (bc : Nat) (bs : Nat) {Q : Int32 → xm_H → Prop} (e : F_X0_entropy g p0 p1 p2 h bc bs Q) : xm_Run g M_X0_entropy 12 [va_rf p0, .int p1, va_rf p2] h bc bs (fun v h' => ∃ r, v = some (.int r) ∧ Q r h') xm_no := by
  refine xm_Run.of2 (ls := [some (va_rf p0), some (.int p1), some (va_rf p2), none]) pn_StringTableauLaw (by cases p0 <;> cases p2 <;> exact Nat.le_of_ble_eq_true rfl) (by cases p0 <;> cases p2 <;> rfl) (fun Γ hΓ => ?_)
  show xm_W g Γ 0 [some (va_rf p0), some (.int p1), some (va_rf p2), none] [] h bc bs
  unfold F_X0_entropy at e
  refine xw_aldo (x := p2) (show xm_Imp g Γ 0 (xi_ald 2 1) from xs_aload_n hΓ dX0_entropy_0) rfl ?_
  refine xw_psh (v := (.int (0))) (show xm_Imp g Γ 1 (xi_psh (.int (0)) 2) from xs_iconst hΓ dX0_entropy_1 (by decide)) ?_
  refine xw_aldo (x := p0) (show xm_Imp g Γ 2 (xi_ald 0 3) from xs_aload_n hΓ dX0_entropy_2) rfl ?_
  refine xw_ild (show xm_Imp g Γ 3 (xi_ild 1 4) from xs_iload_n hΓ dX0_entropy_3) rfl ?_
  obtain ⟨a1, ha1, e⟩ := e
  obtain ⟨_, e0, e⟩ := e
  obtain ⟨m2, m3, ⟨em1, em2⟩, e⟩ := e
  refine xw_tHvi1 (o := p0) (show xm_Imp g Γ 4 (xi_virH g 0 M_X1_entropy 11 1 7 [("java/lang/IllegalArgumentException", 12)]) from xs_invVH hG hΓ k_X1_entropy rfl (hs0 := [("java/lang/IllegalArgumentException", 12)]) (xm_cov1 (by decide) (by decide) q1858 (xm_covN _ _ _)) (ci := 0) rfl q2099 q2100 q2101 dX0_entropy_4) (by simp [xm_stk, xv_cat, xc_int, xc_long, xc_float, xc_double, xc_ref]) ha1 e0 em1 em2 (K_X1_entropy hG a1 p1 _ _ _ e) (fun v5 h4 e => ?_) (fun E8 q9 h10 e => ?_)
  · refine xw_i2l (show xm_Imp g Γ 7 (xi_i2l 8) from xs_i2l hΓ dX0_entropy_7) ?_
    obtain ⟨a6, ha6, e⟩ := e
    obtain ⟨h7, e1, e⟩ := e
    refine xw_hlas (o := p2) (show xm_Imp g Γ 8 (xi_las 9) from xs_las hG hΓ dX0_entropy_8) ha6 e1 ?_
    refine xw_goto (show xm_Imp g Γ 9 (xi_goto 15) from xs_goto hΓ dX0_entropy_9 (by decide)) ?_
    refine xw_psh (v := (.int (0))) (show xm_Imp g Γ 15 (xi_psh (.int (0)) 16) from xs_iconst hΓ dX0_entropy_15 (by decide)) ?_
    exact xw_iret (show xm_Imp g Γ 16 (xi_iret .int _) from xs_ireturn hΓ rfl dX0_entropy_16) (xn_int _) ⟨_, rfl, e⟩
  rcases e with ⟨ec, e⟩ | ⟨ec, e⟩
  · refine Or.inl ⟨ec, ?_⟩
    refine xw_ast (ls' := [some (va_rf p0), some (.int p1), some (va_rf p2), some (.ref q9)]) (show xm_Imp g Γ 12 (xi_ast 3 13) from xs_astore_n hΓ dX0_entropy_12 (Nat.le_of_ble_eq_true rfl)) ((xm_s1_o (o := p2) rfl).trans rfl) ?_
    refine xw_psh (v := (.int (1))) (show xm_Imp g Γ 13 (xi_psh (.int (1)) 14) from xs_iconst hΓ dX0_entropy_13 (by decide)) ?_
    exact xw_iret (show xm_Imp g Γ 14 (xi_iret .int _) from xs_ireturn hΓ rfl dX0_entropy_14) (xn_int _) ⟨_, rfl, e⟩
  refine Or.inr ⟨ec, ?_⟩
  exact e.elim
noncomputable def F_X0_block (g : xm_G) (p0 : Option Nat) (p1 : Int32) (p2 : Option Nat) (h : xm_H) (bc : Nat) (bs : Nat) (Q : Int32 → xm_H → Prop) : Prop :=
 xt_b p0 (fun a1 =>
 xt_b (xh_is 0 h a1) (fun _ =>
 xt_c bc bs (fun m2 m3 => F_X1_block g a1 p1 h m2 m3 (fun v5 h4 =>
 xt_b p2 (fun a6 =>
 xt_b (xh_sl h4 a6 0 v5.toInt64) (fun h7 =>
 Q 0 h7))) (fun E8 q9 h10 => xt_h E8 [("java/lang/IndexOutOfBoundsException", Q 1 h10)]))))
set_option maxHeartbeats 4000000 in
theorem K_X0_block {g : xm_G} (hG : xm_Gw g) (p0 : Option Nat) (p1 : Int32) (p2 : Option Nat) (h : xm_H) (bc : Nat) (bs : Nat) {Q : Int32 → xm_H → Prop} (e : F_X0_block g p0 p1 p2 h bc bs Q) : xm_Run g M_X0_block 12 [va_rf p0, .int p1, va_rf p2] h bc bs (fun v h' => ∃ r, v = some (.int r) ∧ Q r h') xm_no := by
  refine xm_Run.of2 (ls := [some (va_rf p0), some (.int p1), some (va_rf p2), none]) pn_StringTableauLaw (by cases p0 <;> cases p2 <;> exact Nat.le_of_ble_eq_true rfl) (by cases p0 <;> cases p2 <;> rfl) (fun Γ hΓ => ?_)
  show xm_W g Γ 0 [some (va_rf p0), some (.int p1), some (va_rf p2), none] [] h bc bs
  unfold F_X0_block at e
  refine xw_aldo (x := p2) (show xm_Imp g Γ 0 (xi_ald 2 1) from xs_aload_n hΓ dX0_block_0) rfl ?_
  refine xw_psh (v := (.int (0))) (show xm_Imp g Γ 1 (xi_psh (.int (0)) 2) from xs_iconst hΓ dX0_block_1 (by decide)) ?_
  refine xw_aldo (x := p0) (show xm_Imp g Γ 2 (xi_ald 0 3) from xs_aload_n hΓ dX0_block_2) rfl ?_
  refine xw_ild (show xm_Imp g Γ 3 (xi_ild 1 4) from xs_iload_n hΓ dX0_block_3) rfl ?_
  obtain ⟨a1, ha1, e⟩ := e
  obtain ⟨_, e0, e⟩ := e
  obtain ⟨m2, m3, ⟨em1, em2⟩, e⟩ := e
  refine xw_tHvi1 (o := p0) (show xm_Imp g Γ 4 (xi_virH g 0 M_X1_block 11 1 7 [("java/lang/IndexOutOfBoundsException", 12)]) from xs_invVH hG hΓ k_X1_block rfl (hs0 := [("java/lang/IndexOutOfBoundsException", 12)]) (xm_cov1 (by decide) (by decide) q1830 (xm_covN _ _ _)) (ci := 0) rfl q2106 q2107 q2108 dX0_block_4) (by simp [xm_stk, xv_cat, xc_int, xc_long, xc_float, xc_double, xc_ref]) ha1 e0 em1 em2 (K_X1_block hG a1 p1 _ _ _ e) (fun v5 h4 e => ?_) (fun E8 q9 h10 e => ?_)
  · refine xw_i2l (show xm_Imp g Γ 7 (xi_i2l 8) from xs_i2l hΓ dX0_block_7) ?_
    obtain ⟨a6, ha6, e⟩ := e
    obtain ⟨h7, e1, e⟩ := e
    refine xw_hlas (o := p2) (show xm_Imp g Γ 8 (xi_las 9) from xs_las hG hΓ dX0_block_8) ha6 e1 ?_
    refine xw_goto (show xm_Imp g Γ 9 (xi_goto 15) from xs_goto hΓ dX0_block_9 (by decide)) ?_
    refine xw_psh (v := (.int (0))) (show xm_Imp g Γ 15 (xi_psh (.int (0)) 16) from xs_iconst hΓ dX0_block_15 (by decide)) ?_
    exact xw_iret (show xm_Imp g Γ 16 (xi_iret .int _) from xs_ireturn hΓ rfl dX0_block_16) (xn_int _) ⟨_, rfl, e⟩
  rcases e with ⟨ec, e⟩ | ⟨ec, e⟩
  · refine Or.inl ⟨ec, ?_⟩
    refine xw_ast (ls' := [some (va_rf p0), some (.int p1), some (va_rf p2), some (.ref q9)]) (show xm_Imp g Γ 12 (xi_ast 3 13) from xs_astore_n hΓ dX0_block_12 (Nat.le_of_ble_eq_true rfl)) ((xm_s1_o (o := p2) rfl).trans rfl) ?_
    refine xw_psh (v := (.int (1))) (show xm_Imp g Γ 13 (xi_psh (.int (1)) 14) from xs_iconst hΓ dX0_block_13 (by decide)) ?_
    exact xw_iret (show xm_Imp g Γ 14 (xi_iret .int _) from xs_ireturn hΓ rfl dX0_block_14) (xn_int _) ⟨_, rfl, e⟩
  refine Or.inr ⟨ec, ?_⟩
  exact e.elim
noncomputable def F_X0_shared (g : xm_G) (p0 : Option Nat) (p1 : Int32) (p2 : Int32) (p3 : Option Nat) (h : xm_H) (bc : Nat) (bs : Nat) (Q : Int32 → xm_H → Prop) : Prop :=
 xt_b p0 (fun a1 =>
 xt_b (xh_is 0 h a1) (fun _ =>
 xt_c bc bs (fun m2 m3 => F_X1_shared g a1 p1 p2 h m2 m3 (fun v5 h4 =>
 xt_b p3 (fun a6 =>
 xt_b (xh_sl h4 a6 0 v5.toInt64) (fun h7 =>
 Q 0 h7))) (fun E8 q9 h10 => xt_h E8 [("java/lang/IllegalArgumentException", Q 1 h10)]))))
set_option maxHeartbeats 4000000 in
theorem K_X0_shared {g : xm_G} (hG : xm_Gw g) (p0 : Option Nat) (p1 : Int32) (p2 : Int32) (p3 : Option Nat) (h : xm_H) (bc : Nat) (bs : Nat) {Q : Int32 → xm_H → Prop} (e : F_X0_shared g p0 p1 p2 p3 h bc bs Q) : xm_Run g M_X0_shared 12 [va_rf p0, .int p1, .int p2, va_rf p3] h bc bs (fun v h' => ∃ r, v = some (.int r) ∧ Q r h') xm_no := by
  refine xm_Run.of2 (ls := [some (va_rf p0), some (.int p1), some (.int p2), some (va_rf p3), none]) pn_StringTableauLaw (by cases p0 <;> cases p3 <;> exact Nat.le_of_ble_eq_true rfl) (by cases p0 <;> cases p3 <;> rfl) (fun Γ hΓ => ?_)
  show xm_W g Γ 0 [some (va_rf p0), some (.int p1), some (.int p2), some (va_rf p3), none] [] h bc bs
  unfold F_X0_shared at e
  refine xw_aldo (x := p3) (show xm_Imp g Γ 0 (xi_ald 3 1) from xs_aload_n hΓ dX0_shared_0) rfl ?_
  refine xw_psh (v := (.int (0))) (show xm_Imp g Γ 1 (xi_psh (.int (0)) 2) from xs_iconst hΓ dX0_shared_1 (by decide)) ?_
  refine xw_aldo (x := p0) (show xm_Imp g Γ 2 (xi_ald 0 3) from xs_aload_n hΓ dX0_shared_2) rfl ?_
  refine xw_ild (show xm_Imp g Γ 3 (xi_ild 1 4) from xs_iload_n hΓ dX0_shared_3) rfl ?_
  refine xw_ild (show xm_Imp g Γ 4 (xi_ild 2 5) from xs_iload_n hΓ dX0_shared_4) rfl ?_
  obtain ⟨a1, ha1, e⟩ := e
  obtain ⟨_, e0, e⟩ := e
  obtain ⟨m2, m3, ⟨em1, em2⟩, e⟩ := e
  refine xw_tHvi2 (o := p0) (show xm_Imp g Γ 5 (xi_virH g 0 M_X1_shared 11 2 8 [("java/lang/IllegalArgumentException", 13)]) from xs_invVH hG hΓ k_X1_shared rfl (hs0 := [("java/lang/IllegalArgumentException", 13)]) (xm_cov1 (by decide) (by decide) q1858 (xm_covN _ _ _)) (ci := 0) rfl q2113 q2114 q2115 dX0_shared_5) (by simp [xm_stk, xv_cat, xc_int, xc_long, xc_float, xc_double, xc_ref]) ha1 e0 em1 em2 (K_X1_shared hG a1 p1 p2 _ _ _ e) (fun v5 h4 e => ?_) (fun E8 q9 h10 e => ?_)
  · refine xw_i2l (show xm_Imp g Γ 8 (xi_i2l 9) from xs_i2l hΓ dX0_shared_8) ?_
    obtain ⟨a6, ha6, e⟩ := e
    obtain ⟨h7, e1, e⟩ := e
    refine xw_hlas (o := p3) (show xm_Imp g Γ 9 (xi_las 10) from xs_las hG hΓ dX0_shared_9) ha6 e1 ?_
    refine xw_goto (show xm_Imp g Γ 10 (xi_goto 17) from xs_goto hΓ dX0_shared_10 (by decide)) ?_
    refine xw_psh (v := (.int (0))) (show xm_Imp g Γ 17 (xi_psh (.int (0)) 18) from xs_iconst hΓ dX0_shared_17 (by decide)) ?_
    exact xw_iret (show xm_Imp g Γ 18 (xi_iret .int _) from xs_ireturn hΓ rfl dX0_shared_18) (xn_int _) ⟨_, rfl, e⟩
  rcases e with ⟨ec, e⟩ | ⟨ec, e⟩
  · refine Or.inl ⟨ec, ?_⟩
    refine xw_ast (ls' := [some (va_rf p0), some (.int p1), some (.int p2), some (va_rf p3), some (.ref q9)]) (show xm_Imp g Γ 13 (xi_ast 4 15) from xs_astore hΓ dX0_shared_13 (Nat.le_of_ble_eq_true rfl)) ((xm_s1_o (o := p3) rfl).trans rfl) ?_
    refine xw_psh (v := (.int (1))) (show xm_Imp g Γ 15 (xi_psh (.int (1)) 16) from xs_iconst hΓ dX0_shared_15 (by decide)) ?_
    exact xw_iret (show xm_Imp g Γ 16 (xi_iret .int _) from xs_ireturn hΓ rfl dX0_shared_16) (xn_int _) ⟨_, rfl, e⟩
  refine Or.inr ⟨ec, ?_⟩
  exact e.elim
noncomputable def F_X0_closestPair (g : xm_G) (p0 : Option Nat) (p1 : Option Nat) (h : xm_H) (bc : Nat) (bs : Nat) (Q : Int32 → xm_H → Prop) : Prop :=
 xt_b p0 (fun a1 =>
 xt_b (xh_is 0 h a1) (fun _ =>
 xt_c bc bs (fun m2 m3 => F_X1_closestPair g a1 h m2 m3 (fun v5 h4 =>
 xt_b p1 (fun a6 =>
 xt_b (xh_sl h4 a6 0 v5.toInt64) (fun h7 =>
 Q 0 h7))) (fun E8 q9 h10 => xt_h E8 [("java/lang/IllegalStateException", Q 1 h10)]))))
set_option maxHeartbeats 4000000 in
theorem K_X0_closestPair {g : xm_G} (hG : xm_Gw g) (p0 : Option Nat) (p1 : Option Nat) (h : xm_H) (bc : Nat) (bs : Nat) {Q : Int32 → xm_H → Prop} (e : F_X0_closestPair g p0 p1 h bc bs Q) : xm_Run g M_X0_closestPair 12 [va_rf p0, va_rf p1] h bc bs (fun v h' => ∃ r, v = some (.int r) ∧ Q r h') xm_no := by
  refine xm_Run.of2 (ls := [some (va_rf p0), some (va_rf p1), none]) pn_StringTableauLaw (by cases p0 <;> cases p1 <;> exact Nat.le_of_ble_eq_true rfl) (by cases p0 <;> cases p1 <;> rfl) (fun Γ hΓ => ?_)
  show xm_W g Γ 0 [some (va_rf p0), some (va_rf p1), none] [] h bc bs
  unfold F_X0_closestPair at e
  refine xw_aldo (x := p1) (show xm_Imp g Γ 0 (xi_ald 1 1) from xs_aload_n hΓ dX0_closestPair_0) rfl ?_
  refine xw_psh (v := (.int (0))) (show xm_Imp g Γ 1 (xi_psh (.int (0)) 2) from xs_iconst hΓ dX0_closestPair_1 (by decide)) ?_
  refine xw_aldo (x := p0) (show xm_Imp g Γ 2 (xi_ald 0 3) from xs_aload_n hΓ dX0_closestPair_2) rfl ?_
  obtain ⟨a1, ha1, e⟩ := e
  obtain ⟨_, e0, e⟩ := e
  obtain ⟨m2, m3, ⟨em1, em2⟩, e⟩ := e
  refine xw_tHvi0 (o := p0) (show xm_Imp g Γ 3 (xi_virH g 0 M_X1_closestPair 11 0 6 [("java/lang/IllegalStateException", 11)]) from xs_invVH hG hΓ k_X1_closestPair rfl (hs0 := [("java/lang/IllegalStateException", 11)]) (xm_cov1 (by decide) (by decide) q1880 (xm_covN _ _ _)) (ci := 0) rfl q2120 q2121 q2122 dX0_closestPair_3) (by simp [xm_stk, xv_cat, xc_int, xc_long, xc_float, xc_double, xc_ref]) ha1 e0 em1 em2 (K_X1_closestPair hG a1 _ _ _ e) (fun v5 h4 e => ?_) (fun E8 q9 h10 e => ?_)
  · refine xw_i2l (show xm_Imp g Γ 6 (xi_i2l 7) from xs_i2l hΓ dX0_closestPair_6) ?_
    obtain ⟨a6, ha6, e⟩ := e
    obtain ⟨h7, e1, e⟩ := e
    refine xw_hlas (o := p1) (show xm_Imp g Γ 7 (xi_las 8) from xs_las hG hΓ dX0_closestPair_7) ha6 e1 ?_
    refine xw_goto (show xm_Imp g Γ 8 (xi_goto 14) from xs_goto hΓ dX0_closestPair_8 (by decide)) ?_
    refine xw_psh (v := (.int (0))) (show xm_Imp g Γ 14 (xi_psh (.int (0)) 15) from xs_iconst hΓ dX0_closestPair_14 (by decide)) ?_
    exact xw_iret (show xm_Imp g Γ 15 (xi_iret .int _) from xs_ireturn hΓ rfl dX0_closestPair_15) (xn_int _) ⟨_, rfl, e⟩
  rcases e with ⟨ec, e⟩ | ⟨ec, e⟩
  · refine Or.inl ⟨ec, ?_⟩
    refine xw_ast (ls' := [some (va_rf p0), some (va_rf p1), some (.ref q9)]) (show xm_Imp g Γ 11 (xi_ast 2 12) from xs_astore_n hΓ dX0_closestPair_11 (Nat.le_of_ble_eq_true rfl)) ((xm_s1_o (o := p1) rfl).trans rfl) ?_
    refine xw_psh (v := (.int (1))) (show xm_Imp g Γ 12 (xi_psh (.int (1)) 13) from xs_iconst hΓ dX0_closestPair_12 (by decide)) ?_
    exact xw_iret (show xm_Imp g Γ 13 (xi_iret .int _) from xs_ireturn hΓ rfl dX0_closestPair_13) (xn_int _) ⟨_, rfl, e⟩
  refine Or.inr ⟨ec, ?_⟩
  exact e.elim
noncomputable def F_X0_mostEntangled (g : xm_G) (p0 : Option Nat) (p1 : Int32) (p2 : Option Nat) (h : xm_H) (bc : Nat) (bs : Nat) (Q : Int32 → xm_H → Prop) : Prop :=
 xt_b p0 (fun a1 =>
 xt_b (xh_is 0 h a1) (fun _ =>
 xt_c bc bs (fun m2 m3 => F_X1_mostEntangled g a1 p1 h m2 m3 (fun v5 h4 =>
 xt_b p2 (fun a6 =>
 xt_b (xh_sl h4 a6 0 v5.toInt64) (fun h7 =>
 Q 0 h7))) (fun E8 q9 h10 => xt_h E8 [("java/lang/IllegalArgumentException", Q 1 h10)]))))
set_option maxHeartbeats 4000000 in
theorem K_X0_mostEntangled {g : xm_G} (hG : xm_Gw g) (p0 : Option Nat) (p1 : Int32) (p2 : Option Nat) (h : xm_H) (bc : Nat) (bs : Nat) {Q : Int32 → xm_H → Prop} (e : F_X0_mostEntangled g p0 p1 p2 h bc bs Q) : xm_Run g M_X0_mostEntangled 12 [va_rf p0, .int p1, va_rf p2] h bc bs (fun v h' => ∃ r, v = some (.int r) ∧ Q r h') xm_no := by
  refine xm_Run.of2 (ls := [some (va_rf p0), some (.int p1), some (va_rf p2), none]) pn_StringTableauLaw (by cases p0 <;> cases p2 <;> exact Nat.le_of_ble_eq_true rfl) (by cases p0 <;> cases p2 <;> rfl) (fun Γ hΓ => ?_)
  show xm_W g Γ 0 [some (va_rf p0), some (.int p1), some (va_rf p2), none] [] h bc bs
  unfold F_X0_mostEntangled at e
  refine xw_aldo (x := p2) (show xm_Imp g Γ 0 (xi_ald 2 1) from xs_aload_n hΓ dX0_mostEntangled_0) rfl ?_
  refine xw_psh (v := (.int (0))) (show xm_Imp g Γ 1 (xi_psh (.int (0)) 2) from xs_iconst hΓ dX0_mostEntangled_1 (by decide)) ?_
  refine xw_aldo (x := p0) (show xm_Imp g Γ 2 (xi_ald 0 3) from xs_aload_n hΓ dX0_mostEntangled_2) rfl ?_
  refine xw_ild (show xm_Imp g Γ 3 (xi_ild 1 4) from xs_iload_n hΓ dX0_mostEntangled_3) rfl ?_
  obtain ⟨a1, ha1, e⟩ := e
  obtain ⟨_, e0, e⟩ := e
  obtain ⟨m2, m3, ⟨em1, em2⟩, e⟩ := e
  refine xw_tHvi1 (o := p0) (show xm_Imp g Γ 4 (xi_virH g 0 M_X1_mostEntangled 11 1 7 [("java/lang/IllegalArgumentException", 12)]) from xs_invVH hG hΓ k_X1_mostEntangled rfl (hs0 := [("java/lang/IllegalArgumentException", 12)]) (xm_cov1 (by decide) (by decide) q1858 (xm_covN _ _ _)) (ci := 0) rfl q2127 q2128 q2129 dX0_mostEntangled_4) (by simp [xm_stk, xv_cat, xc_int, xc_long, xc_float, xc_double, xc_ref]) ha1 e0 em1 em2 (K_X1_mostEntangled hG a1 p1 _ _ _ e) (fun v5 h4 e => ?_) (fun E8 q9 h10 e => ?_)
  · refine xw_i2l (show xm_Imp g Γ 7 (xi_i2l 8) from xs_i2l hΓ dX0_mostEntangled_7) ?_
    obtain ⟨a6, ha6, e⟩ := e
    obtain ⟨h7, e1, e⟩ := e
    refine xw_hlas (o := p2) (show xm_Imp g Γ 8 (xi_las 9) from xs_las hG hΓ dX0_mostEntangled_8) ha6 e1 ?_
    refine xw_goto (show xm_Imp g Γ 9 (xi_goto 15) from xs_goto hΓ dX0_mostEntangled_9 (by decide)) ?_
    refine xw_psh (v := (.int (0))) (show xm_Imp g Γ 15 (xi_psh (.int (0)) 16) from xs_iconst hΓ dX0_mostEntangled_15 (by decide)) ?_
    exact xw_iret (show xm_Imp g Γ 16 (xi_iret .int _) from xs_ireturn hΓ rfl dX0_mostEntangled_16) (xn_int _) ⟨_, rfl, e⟩
  rcases e with ⟨ec, e⟩ | ⟨ec, e⟩
  · refine Or.inl ⟨ec, ?_⟩
    refine xw_ast (ls' := [some (va_rf p0), some (.int p1), some (va_rf p2), some (.ref q9)]) (show xm_Imp g Γ 12 (xi_ast 3 13) from xs_astore_n hΓ dX0_mostEntangled_12 (Nat.le_of_ble_eq_true rfl)) ((xm_s1_o (o := p2) rfl).trans rfl) ?_
    refine xw_psh (v := (.int (1))) (show xm_Imp g Γ 13 (xi_psh (.int (1)) 14) from xs_iconst hΓ dX0_mostEntangled_13 (by decide)) ?_
    exact xw_iret (show xm_Imp g Γ 14 (xi_iret .int _) from xs_ireturn hΓ rfl dX0_mostEntangled_14) (xn_int _) ⟨_, rfl, e⟩
  refine Or.inr ⟨ec, ?_⟩
  exact e.elim
noncomputable def F_X0_probability (g : xm_G) (p0 : Option Nat) (p1 : Int32) (p2 : Option Nat) (h : xm_H) (bc : Nat) (bs : Nat) (Q : Int32 → xm_H → Prop) : Prop :=
 xt_b p0 (fun a1 =>
 xt_b (xh_is 0 h a1) (fun _ =>
 xt_c bc bs (fun m2 m3 => F_X1_probability g a1 p1 h m2 m3 (fun v5 h4 =>
 xt_b p2 (fun a6 =>
 xt_b (xh_sd h4 a6 0 v5) (fun h7 =>
 Q 0 h7))) (fun E8 q9 h10 => xt_h E8 [("java/lang/IllegalArgumentException", Q 1 h10)]))))
set_option maxHeartbeats 4000000 in
theorem K_X0_probability {g : xm_G} (hG : xm_Gw g) (p0 : Option Nat) (p1 : Int32) (p2 : Option Nat) (h : xm_H) (bc : Nat) (bs : Nat) {Q : Int32 → xm_H → Prop} (e : F_X0_probability g p0 p1 p2 h bc bs Q) : xm_Run g M_X0_probability 11 [va_rf p0, .int p1, va_rf p2] h bc bs (fun v h' => ∃ r, v = some (.int r) ∧ Q r h') xm_no := by
  refine xm_Run.of2 (ls := [some (va_rf p0), some (.int p1), some (va_rf p2), none]) pn_StringTableauLaw (by cases p0 <;> cases p2 <;> exact Nat.le_of_ble_eq_true rfl) (by cases p0 <;> cases p2 <;> rfl) (fun Γ hΓ => ?_)
  show xm_W g Γ 0 [some (va_rf p0), some (.int p1), some (va_rf p2), none] [] h bc bs
  unfold F_X0_probability at e
  refine xw_aldo (x := p2) (show xm_Imp g Γ 0 (xi_ald 2 1) from xs_aload_n hΓ dX0_probability_0) rfl ?_
  refine xw_psh (v := (.int (0))) (show xm_Imp g Γ 1 (xi_psh (.int (0)) 2) from xs_iconst hΓ dX0_probability_1 (by decide)) ?_
  refine xw_aldo (x := p0) (show xm_Imp g Γ 2 (xi_ald 0 3) from xs_aload_n hΓ dX0_probability_2) rfl ?_
  refine xw_ild (show xm_Imp g Γ 3 (xi_ild 1 4) from xs_iload_n hΓ dX0_probability_3) rfl ?_
  obtain ⟨a1, ha1, e⟩ := e
  obtain ⟨_, e0, e⟩ := e
  obtain ⟨m2, m3, ⟨em1, em2⟩, e⟩ := e
  refine xw_tHvd1 (o := p0) (show xm_Imp g Γ 4 (xi_virH g 0 M_X1_probability 10 1 7 [("java/lang/IllegalArgumentException", 11)]) from xs_invVH hG hΓ k_X1_probability rfl (hs0 := [("java/lang/IllegalArgumentException", 11)]) (xm_cov1 (by decide) (by decide) q1858 (xm_covN _ _ _)) (ci := 0) rfl q2134 q2135 q2136 dX0_probability_4) (by simp [xm_stk, xv_cat, xc_int, xc_long, xc_float, xc_double, xc_ref]) ha1 e0 em1 em2 (K_X1_probability hG a1 p1 _ _ _ e) (fun v5 h4 e => ?_) (fun E8 q9 h10 e => ?_)
  · obtain ⟨a6, ha6, e⟩ := e
    obtain ⟨h7, e1, e⟩ := e
    refine xw_hdas (o := p2) (show xm_Imp g Γ 7 (xi_das 8) from xs_das hG hΓ dX0_probability_7) ha6 e1 ?_
    refine xw_goto (show xm_Imp g Γ 8 (xi_goto 14) from xs_goto hΓ dX0_probability_8 (by decide)) ?_
    refine xw_psh (v := (.int (0))) (show xm_Imp g Γ 14 (xi_psh (.int (0)) 15) from xs_iconst hΓ dX0_probability_14 (by decide)) ?_
    exact xw_iret (show xm_Imp g Γ 15 (xi_iret .int _) from xs_ireturn hΓ rfl dX0_probability_15) (xn_int _) ⟨_, rfl, e⟩
  rcases e with ⟨ec, e⟩ | ⟨ec, e⟩
  · refine Or.inl ⟨ec, ?_⟩
    refine xw_ast (ls' := [some (va_rf p0), some (.int p1), some (va_rf p2), some (.ref q9)]) (show xm_Imp g Γ 11 (xi_ast 3 12) from xs_astore_n hΓ dX0_probability_11 (Nat.le_of_ble_eq_true rfl)) ((xm_s1_o (o := p2) rfl).trans rfl) ?_
    refine xw_psh (v := (.int (1))) (show xm_Imp g Γ 12 (xi_psh (.int (1)) 13) from xs_iconst hΓ dX0_probability_12 (by decide)) ?_
    exact xw_iret (show xm_Imp g Γ 13 (xi_iret .int _) from xs_ireturn hΓ rfl dX0_probability_13) (xn_int _) ⟨_, rfl, e⟩
  refine Or.inr ⟨ec, ?_⟩
  exact e.elim
noncomputable def B_X0_keep_15 (g : xm_G) (s0 : Option Nat) (s1 : Int32) (s2 : Int64) (h : xm_H) (bc : Nat) (bs : Nat) (Q : Int32 → xm_H → Prop) : Prop :=
 xt_b s0 (fun a6 =>
 xt_b (xh_sl h a6 s1 s2) (fun h7 =>
 Q 0 h7))
noncomputable def F_X0_keep (g : xm_G) (p0 : Option Nat) (p1 : Int32) (p2 : Option Nat) (h : xm_H) (bc : Nat) (bs : Nat) (Q : Int32 → xm_H → Prop) : Prop :=
 xt_b p0 (fun a1 =>
 xt_b (xh_is 0 h a1) (fun _ =>
 xt_c bc bs (fun m2 m3 => F_X1_keep g a1 p1 h m2 m3 (fun v5 h4 =>
 B_X0_keep_15 g p2 0 (if v5 = 0 then 0 else 1) h4 (bc - m2) (bs - m3) Q) (fun E8 q9 h10 => xt_h E8 [("java/lang/IndexOutOfBoundsException", Q 1 h10)]))))
set_option maxHeartbeats 4000000 in
theorem K_X0_keep {g : xm_G} (hG : xm_Gw g) (p0 : Option Nat) (p1 : Int32) (p2 : Option Nat) (h : xm_H) (bc : Nat) (bs : Nat) {Q : Int32 → xm_H → Prop} (e : F_X0_keep g p0 p1 p2 h bc bs Q) : xm_Run g M_X0_keep 10 [va_rf p0, .int p1, va_rf p2] h bc bs (fun v h' => ∃ r, v = some (.int r) ∧ Q r h') xm_no := by
  refine xm_Run.of2 (ls := [some (va_rf p0), some (.int p1), some (va_rf p2), none]) pn_StringTableauLaw (by cases p0 <;> cases p2 <;> exact Nat.le_of_ble_eq_true rfl) (by cases p0 <;> cases p2 <;> rfl) (fun Γ hΓ => ?_)
  show xm_W g Γ 0 [some (va_rf p0), some (.int p1), some (va_rf p2), none] [] h bc bs
  have hB_15 : ∀ (s0 : Option Nat) (s1 : Int32) (s2 : Int64) (h : xm_H) (bc : Nat) (bs : Nat), B_X0_keep_15 g s0 s1 s2 h bc bs Q → xm_W g Γ 15 [none, none, none, none] [.long s2, .int s1, va_rf s0] h bc bs := by
    intro s0 s1 s2 h bc bs e
    unfold B_X0_keep_15 at e
    obtain ⟨a6, ha6, e⟩ := e
    obtain ⟨h7, e1, e⟩ := e
    refine xw_hlas (o := s0) (show xm_Imp g Γ 15 (xi_las 16) from xs_las hG hΓ dX0_keep_15) ha6 e1 ?_
    refine xw_goto (show xm_Imp g Γ 16 (xi_goto 22) from xs_goto hΓ dX0_keep_16 (by decide)) ?_
    refine xw_psh (v := (.int (0))) (show xm_Imp g Γ 22 (xi_psh (.int (0)) 23) from xs_iconst hΓ dX0_keep_22 (by decide)) ?_
    exact xw_iret (show xm_Imp g Γ 23 (xi_iret .int _) from xs_ireturn hΓ rfl dX0_keep_23) (xn_int _) ⟨_, rfl, e⟩
  unfold F_X0_keep at e
  refine xw_aldo (x := p2) (show xm_Imp g Γ 0 (xi_ald 2 1) from xs_aload_n hΓ dX0_keep_0) rfl ?_
  refine xw_psh (v := (.int (0))) (show xm_Imp g Γ 1 (xi_psh (.int (0)) 2) from xs_iconst hΓ dX0_keep_1 (by decide)) ?_
  refine xw_aldo (x := p0) (show xm_Imp g Γ 2 (xi_ald 0 3) from xs_aload_n hΓ dX0_keep_2) rfl ?_
  refine xw_ild (show xm_Imp g Γ 3 (xi_ild 1 4) from xs_iload_n hΓ dX0_keep_3) rfl ?_
  obtain ⟨a1, ha1, e⟩ := e
  obtain ⟨_, e0, e⟩ := e
  obtain ⟨m2, m3, ⟨em1, em2⟩, e⟩ := e
  refine xw_tHvi1 (o := p0) (show xm_Imp g Γ 4 (xi_virH g 0 M_X1_keep 9 1 7 [("java/lang/IndexOutOfBoundsException", 19)]) from xs_invVH hG hΓ k_X1_keep rfl (hs0 := [("java/lang/IndexOutOfBoundsException", 19)]) (xm_cov1 (by decide) (by decide) q1830 (xm_covN _ _ _)) (ci := 0) rfl q2142 q2143 q2144 dX0_keep_4) (by simp [xm_stk, xv_cat, xc_int, xc_long, xc_float, xc_double, xc_ref]) ha1 e0 em1 em2 (K_X1_keep hG a1 p1 _ _ _ e) (fun v5 h4 e => ?_) (fun E8 q9 h10 e => ?_)
  · refine xw_if (show xm_Imp g Γ 7 (xi_if (fun x => x = 0) 14 10) from xs_if_eq hΓ dX0_keep_7 (by decide)) (fun c => ?_) (fun c => ?_)
    · rw [if_pos c] at e
      refine xw_psh (v := (.long 0)) (show xm_Imp g Γ 14 (xi_psh (.long 0) 15) from xs_lconst hΓ dX0_keep_14 (by decide)) ?_
      exact xm_lx (hB_15 _ _ _ _ _ _ e) (trivial)
    · rw [if_neg c] at e
      refine xw_psh (v := (.long 1)) (show xm_Imp g Γ 10 (xi_psh (.long 1) 11) from xs_lconst hΓ dX0_keep_10 (by decide)) ?_
      refine xw_goto (show xm_Imp g Γ 11 (xi_goto 15) from xs_goto hΓ dX0_keep_11 (by decide)) ?_
      exact xm_lx (hB_15 _ _ _ _ _ _ e) (trivial)
  rcases e with ⟨ec, e⟩ | ⟨ec, e⟩
  · refine Or.inl ⟨ec, ?_⟩
    refine xw_ast (ls' := [some (va_rf p0), some (.int p1), some (va_rf p2), some (.ref q9)]) (show xm_Imp g Γ 19 (xi_ast 3 20) from xs_astore_n hΓ dX0_keep_19 (Nat.le_of_ble_eq_true rfl)) ((xm_s1_o (o := p2) rfl).trans rfl) ?_
    refine xw_psh (v := (.int (1))) (show xm_Imp g Γ 20 (xi_psh (.int (1)) 21) from xs_iconst hΓ dX0_keep_20 (by decide)) ?_
    exact xw_iret (show xm_Imp g Γ 21 (xi_iret .int _) from xs_ireturn hΓ rfl dX0_keep_21) (xn_int _) ⟨_, rfl, e⟩
  refine Or.inr ⟨ec, ?_⟩
  exact e.elim
noncomputable def B_X0_isSame_15 (g : xm_G) (s0 : Option Nat) (s1 : Int32) (s2 : Int64) (h : xm_H) (bc : Nat) (bs : Nat) (Q : Int32 → xm_H → Prop) : Prop :=
 xt_b s0 (fun a6 =>
 xt_b (xh_sl h a6 s1 s2) (fun h7 =>
 Q 0 h7))
noncomputable def F_X0_isSame (g : xm_G) (p0 : Option Nat) (p1 : Int32) (p2 : Option Nat) (h : xm_H) (bc : Nat) (bs : Nat) (Q : Int32 → xm_H → Prop) : Prop :=
 xt_b p0 (fun a1 =>
 xt_b (xh_is 0 h a1) (fun _ =>
 xt_c bc bs (fun m2 m3 => F_X1_isSame g a1 p1 h m2 m3 (fun v5 h4 =>
 B_X0_isSame_15 g p2 0 (if v5 = 0 then 0 else 1) h4 (bc - m2) (bs - m3) Q) (fun E8 q9 h10 => xt_h E8 [("java/lang/IndexOutOfBoundsException", Q 1 h10), ("java/lang/IllegalStateException", Q 2 h10)]))))
set_option maxHeartbeats 4000000 in
theorem K_X0_isSame {g : xm_G} (hG : xm_Gw g) (p0 : Option Nat) (p1 : Int32) (p2 : Option Nat) (h : xm_H) (bc : Nat) (bs : Nat) {Q : Int32 → xm_H → Prop} (e : F_X0_isSame g p0 p1 p2 h bc bs Q) : xm_Run g M_X0_isSame 11 [va_rf p0, .int p1, va_rf p2] h bc bs (fun v h' => ∃ r, v = some (.int r) ∧ Q r h') xm_no := by
  refine xm_Run.of2 (ls := [some (va_rf p0), some (.int p1), some (va_rf p2), none]) pn_StringTableauLaw (by cases p0 <;> cases p2 <;> exact Nat.le_of_ble_eq_true rfl) (by cases p0 <;> cases p2 <;> rfl) (fun Γ hΓ => ?_)
  show xm_W g Γ 0 [some (va_rf p0), some (.int p1), some (va_rf p2), none] [] h bc bs
  have hB_15 : ∀ (s0 : Option Nat) (s1 : Int32) (s2 : Int64) (h : xm_H) (bc : Nat) (bs : Nat), B_X0_isSame_15 g s0 s1 s2 h bc bs Q → xm_W g Γ 15 [none, none, none, none] [.long s2, .int s1, va_rf s0] h bc bs := by
    intro s0 s1 s2 h bc bs e
    unfold B_X0_isSame_15 at e
    obtain ⟨a6, ha6, e⟩ := e
    obtain ⟨h7, e1, e⟩ := e
    refine xw_hlas (o := s0) (show xm_Imp g Γ 15 (xi_las 16) from xs_las hG hΓ dX0_isSame_15) ha6 e1 ?_
    refine xw_goto (show xm_Imp g Γ 16 (xi_goto 25) from xs_goto hΓ dX0_isSame_16 (by decide)) ?_
    refine xw_psh (v := (.int (0))) (show xm_Imp g Γ 25 (xi_psh (.int (0)) 26) from xs_iconst hΓ dX0_isSame_25 (by decide)) ?_
    exact xw_iret (show xm_Imp g Γ 26 (xi_iret .int _) from xs_ireturn hΓ rfl dX0_isSame_26) (xn_int _) ⟨_, rfl, e⟩
  unfold F_X0_isSame at e
  refine xw_aldo (x := p2) (show xm_Imp g Γ 0 (xi_ald 2 1) from xs_aload_n hΓ dX0_isSame_0) rfl ?_
  refine xw_psh (v := (.int (0))) (show xm_Imp g Γ 1 (xi_psh (.int (0)) 2) from xs_iconst hΓ dX0_isSame_1 (by decide)) ?_
  refine xw_aldo (x := p0) (show xm_Imp g Γ 2 (xi_ald 0 3) from xs_aload_n hΓ dX0_isSame_2) rfl ?_
  refine xw_ild (show xm_Imp g Γ 3 (xi_ild 1 4) from xs_iload_n hΓ dX0_isSame_3) rfl ?_
  obtain ⟨a1, ha1, e⟩ := e
  obtain ⟨_, e0, e⟩ := e
  obtain ⟨m2, m3, ⟨em1, em2⟩, e⟩ := e
  refine xw_tHvi1 (o := p0) (show xm_Imp g Γ 4 (xi_virH g 0 M_X1_isSame 10 1 7 [("java/lang/IndexOutOfBoundsException", 19), ("java/lang/IllegalStateException", 22)]) from xs_invVH hG hΓ k_X1_isSame rfl (hs0 := [("java/lang/IndexOutOfBoundsException", 19), ("java/lang/IllegalStateException", 22)]) (xm_cov1 (by decide) (by decide) q1830 (xm_cov1 (by decide) (by decide) q1880 (xm_covN _ _ _))) (ci := 0) rfl q2149 q2150 q2151 dX0_isSame_4) (by simp [xm_stk, xv_cat, xc_int, xc_long, xc_float, xc_double, xc_ref]) ha1 e0 em1 em2 (K_X1_isSame hG a1 p1 _ _ _ e) (fun v5 h4 e => ?_) (fun E8 q9 h10 e => ?_)
  · refine xw_if (show xm_Imp g Γ 7 (xi_if (fun x => x = 0) 14 10) from xs_if_eq hΓ dX0_isSame_7 (by decide)) (fun c => ?_) (fun c => ?_)
    · rw [if_pos c] at e
      refine xw_psh (v := (.long 0)) (show xm_Imp g Γ 14 (xi_psh (.long 0) 15) from xs_lconst hΓ dX0_isSame_14 (by decide)) ?_
      exact xm_lx (hB_15 _ _ _ _ _ _ e) (trivial)
    · rw [if_neg c] at e
      refine xw_psh (v := (.long 1)) (show xm_Imp g Γ 10 (xi_psh (.long 1) 11) from xs_lconst hΓ dX0_isSame_10 (by decide)) ?_
      refine xw_goto (show xm_Imp g Γ 11 (xi_goto 15) from xs_goto hΓ dX0_isSame_11 (by decide)) ?_
      exact xm_lx (hB_15 _ _ _ _ _ _ e) (trivial)
  rcases e with ⟨ec, e⟩ | ⟨ec, e⟩
  · refine Or.inl ⟨ec, ?_⟩
    refine xw_ast (ls' := [some (va_rf p0), some (.int p1), some (va_rf p2), some (.ref q9)]) (show xm_Imp g Γ 19 (xi_ast 3 20) from xs_astore_n hΓ dX0_isSame_19 (Nat.le_of_ble_eq_true rfl)) ((xm_s1_o (o := p2) rfl).trans rfl) ?_
    refine xw_psh (v := (.int (1))) (show xm_Imp g Γ 20 (xi_psh (.int (1)) 21) from xs_iconst hΓ dX0_isSame_20 (by decide)) ?_
    exact xw_iret (show xm_Imp g Γ 21 (xi_iret .int _) from xs_ireturn hΓ rfl dX0_isSame_21) (xn_int _) ⟨_, rfl, e⟩
  refine Or.inr ⟨ec, ?_⟩
  rcases e with ⟨ec, e⟩ | ⟨ec, e⟩
  · refine Or.inl ⟨ec, ?_⟩
    refine xw_ast (ls' := [some (va_rf p0), some (.int p1), some (va_rf p2), some (.ref q9)]) (show xm_Imp g Γ 22 (xi_ast 3 23) from xs_astore_n hΓ dX0_isSame_22 (Nat.le_of_ble_eq_true rfl)) ((xm_s1_o (o := p2) rfl).trans rfl) ?_
    refine xw_psh (v := (.int (2))) (show xm_Imp g Γ 23 (xi_psh (.int (2)) 24) from xs_iconst hΓ dX0_isSame_23 (by decide)) ?_
    exact xw_iret (show xm_Imp g Γ 24 (xi_iret .int _) from xs_ireturn hΓ rfl dX0_isSame_24) (xn_int _) ⟨_, rfl, e⟩
  refine Or.inr ⟨ec, ?_⟩
  exact e.elim
noncomputable def F_X0_overlap (g : xm_G) (p0 : Option Nat) (p1 : Int32) (p2 : Option Nat) (h : xm_H) (bc : Nat) (bs : Nat) (Q : Int32 → xm_H → Prop) : Prop :=
 xt_b p0 (fun a1 =>
 xt_b (xh_is 0 h a1) (fun _ =>
 xt_c bc bs (fun m2 m3 => F_X1_overlap g a1 p1 h m2 m3 (fun v5 h4 =>
 xt_b p2 (fun a6 =>
 xt_b (xh_sl h4 a6 0 v5.toInt64) (fun h7 =>
 Q 0 h7))) (fun E8 q9 h10 => xt_h E8 [("java/lang/IndexOutOfBoundsException", Q 1 h10), ("java/lang/IllegalStateException", Q 2 h10)]))))
set_option maxHeartbeats 4000000 in
theorem K_X0_overlap {g : xm_G} (hG : xm_Gw g) (p0 : Option Nat) (p1 : Int32) (p2 : Option Nat) (h : xm_H) (bc : Nat) (bs : Nat) {Q : Int32 → xm_H → Prop} (e : F_X0_overlap g p0 p1 p2 h bc bs Q) : xm_Run g M_X0_overlap 11 [va_rf p0, .int p1, va_rf p2] h bc bs (fun v h' => ∃ r, v = some (.int r) ∧ Q r h') xm_no := by
  refine xm_Run.of2 (ls := [some (va_rf p0), some (.int p1), some (va_rf p2), none]) pn_StringTableauLaw (by cases p0 <;> cases p2 <;> exact Nat.le_of_ble_eq_true rfl) (by cases p0 <;> cases p2 <;> rfl) (fun Γ hΓ => ?_)
  show xm_W g Γ 0 [some (va_rf p0), some (.int p1), some (va_rf p2), none] [] h bc bs
  unfold F_X0_overlap at e
  refine xw_aldo (x := p2) (show xm_Imp g Γ 0 (xi_ald 2 1) from xs_aload_n hΓ dX0_overlap_0) rfl ?_
  refine xw_psh (v := (.int (0))) (show xm_Imp g Γ 1 (xi_psh (.int (0)) 2) from xs_iconst hΓ dX0_overlap_1 (by decide)) ?_
  refine xw_aldo (x := p0) (show xm_Imp g Γ 2 (xi_ald 0 3) from xs_aload_n hΓ dX0_overlap_2) rfl ?_
  refine xw_ild (show xm_Imp g Γ 3 (xi_ild 1 4) from xs_iload_n hΓ dX0_overlap_3) rfl ?_
  obtain ⟨a1, ha1, e⟩ := e
  obtain ⟨_, e0, e⟩ := e
  obtain ⟨m2, m3, ⟨em1, em2⟩, e⟩ := e
  refine xw_tHvi1 (o := p0) (show xm_Imp g Γ 4 (xi_virH g 0 M_X1_overlap 10 1 7 [("java/lang/IndexOutOfBoundsException", 12), ("java/lang/IllegalStateException", 15)]) from xs_invVH hG hΓ k_X1_overlap rfl (hs0 := [("java/lang/IndexOutOfBoundsException", 12), ("java/lang/IllegalStateException", 15)]) (xm_cov1 (by decide) (by decide) q1830 (xm_cov1 (by decide) (by decide) q1880 (xm_covN _ _ _))) (ci := 0) rfl q2760 q2761 q2762 dX0_overlap_4) (by simp [xm_stk, xv_cat, xc_int, xc_long, xc_float, xc_double, xc_ref]) ha1 e0 em1 em2 (K_X1_overlap hG a1 p1 _ _ _ e) (fun v5 h4 e => ?_) (fun E8 q9 h10 e => ?_)
  · refine xw_i2l (show xm_Imp g Γ 7 (xi_i2l 8) from xs_i2l hΓ dX0_overlap_7) ?_
    obtain ⟨a6, ha6, e⟩ := e
    obtain ⟨h7, e1, e⟩ := e
    refine xw_hlas (o := p2) (show xm_Imp g Γ 8 (xi_las 9) from xs_las hG hΓ dX0_overlap_8) ha6 e1 ?_
    refine xw_goto (show xm_Imp g Γ 9 (xi_goto 18) from xs_goto hΓ dX0_overlap_9 (by decide)) ?_
    refine xw_psh (v := (.int (0))) (show xm_Imp g Γ 18 (xi_psh (.int (0)) 19) from xs_iconst hΓ dX0_overlap_18 (by decide)) ?_
    exact xw_iret (show xm_Imp g Γ 19 (xi_iret .int _) from xs_ireturn hΓ rfl dX0_overlap_19) (xn_int _) ⟨_, rfl, e⟩
  rcases e with ⟨ec, e⟩ | ⟨ec, e⟩
  · refine Or.inl ⟨ec, ?_⟩
    refine xw_ast (ls' := [some (va_rf p0), some (.int p1), some (va_rf p2), some (.ref q9)]) (show xm_Imp g Γ 12 (xi_ast 3 13) from xs_astore_n hΓ dX0_overlap_12 (Nat.le_of_ble_eq_true rfl)) ((xm_s1_o (o := p2) rfl).trans rfl) ?_
    refine xw_psh (v := (.int (1))) (show xm_Imp g Γ 13 (xi_psh (.int (1)) 14) from xs_iconst hΓ dX0_overlap_13 (by decide)) ?_
    exact xw_iret (show xm_Imp g Γ 14 (xi_iret .int _) from xs_ireturn hΓ rfl dX0_overlap_14) (xn_int _) ⟨_, rfl, e⟩
  refine Or.inr ⟨ec, ?_⟩
  rcases e with ⟨ec, e⟩ | ⟨ec, e⟩
  · refine Or.inl ⟨ec, ?_⟩
    refine xw_ast (ls' := [some (va_rf p0), some (.int p1), some (va_rf p2), some (.ref q9)]) (show xm_Imp g Γ 15 (xi_ast 3 16) from xs_astore_n hΓ dX0_overlap_15 (Nat.le_of_ble_eq_true rfl)) ((xm_s1_o (o := p2) rfl).trans rfl) ?_
    refine xw_psh (v := (.int (2))) (show xm_Imp g Γ 16 (xi_psh (.int (2)) 17) from xs_iconst hΓ dX0_overlap_16 (by decide)) ?_
    exact xw_iret (show xm_Imp g Γ 17 (xi_iret .int _) from xs_ireturn hΓ rfl dX0_overlap_17) (xn_int _) ⟨_, rfl, e⟩
  refine Or.inr ⟨ec, ?_⟩
  exact e.elim
noncomputable def F_X0_agreeing (g : xm_G) (p0 : Option Nat) (p1 : Int32) (p2 : Option Nat) (h : xm_H) (bc : Nat) (bs : Nat) (Q : Int32 → xm_H → Prop) : Prop :=
 xt_b p0 (fun a1 =>
 xt_b (xh_is 0 h a1) (fun _ =>
 xt_c bc bs (fun m2 m3 => F_X1_agreeing g a1 p1 h m2 m3 (fun v5 h4 =>
 xt_b p2 (fun a6 =>
 xt_b (xh_sl h4 a6 0 v5.toInt64) (fun h7 =>
 Q 0 h7))) (fun E8 q9 h10 => xt_h E8 [("java/lang/IndexOutOfBoundsException", Q 1 h10), ("java/lang/IllegalStateException", Q 2 h10)]))))
set_option maxHeartbeats 4000000 in
theorem K_X0_agreeing {g : xm_G} (hG : xm_Gw g) (p0 : Option Nat) (p1 : Int32) (p2 : Option Nat) (h : xm_H) (bc : Nat) (bs : Nat) {Q : Int32 → xm_H → Prop} (e : F_X0_agreeing g p0 p1 p2 h bc bs Q) : xm_Run g M_X0_agreeing 11 [va_rf p0, .int p1, va_rf p2] h bc bs (fun v h' => ∃ r, v = some (.int r) ∧ Q r h') xm_no := by
  refine xm_Run.of2 (ls := [some (va_rf p0), some (.int p1), some (va_rf p2), none]) pn_StringTableauLaw (by cases p0 <;> cases p2 <;> exact Nat.le_of_ble_eq_true rfl) (by cases p0 <;> cases p2 <;> rfl) (fun Γ hΓ => ?_)
  show xm_W g Γ 0 [some (va_rf p0), some (.int p1), some (va_rf p2), none] [] h bc bs
  unfold F_X0_agreeing at e
  refine xw_aldo (x := p2) (show xm_Imp g Γ 0 (xi_ald 2 1) from xs_aload_n hΓ dX0_agreeing_0) rfl ?_
  refine xw_psh (v := (.int (0))) (show xm_Imp g Γ 1 (xi_psh (.int (0)) 2) from xs_iconst hΓ dX0_agreeing_1 (by decide)) ?_
  refine xw_aldo (x := p0) (show xm_Imp g Γ 2 (xi_ald 0 3) from xs_aload_n hΓ dX0_agreeing_2) rfl ?_
  refine xw_ild (show xm_Imp g Γ 3 (xi_ild 1 4) from xs_iload_n hΓ dX0_agreeing_3) rfl ?_
  obtain ⟨a1, ha1, e⟩ := e
  obtain ⟨_, e0, e⟩ := e
  obtain ⟨m2, m3, ⟨em1, em2⟩, e⟩ := e
  refine xw_tHvi1 (o := p0) (show xm_Imp g Γ 4 (xi_virH g 0 M_X1_agreeing 10 1 7 [("java/lang/IndexOutOfBoundsException", 12), ("java/lang/IllegalStateException", 15)]) from xs_invVH hG hΓ k_X1_agreeing rfl (hs0 := [("java/lang/IndexOutOfBoundsException", 12), ("java/lang/IllegalStateException", 15)]) (xm_cov1 (by decide) (by decide) q1830 (xm_cov1 (by decide) (by decide) q1880 (xm_covN _ _ _))) (ci := 0) rfl q2768 q2769 q2770 dX0_agreeing_4) (by simp [xm_stk, xv_cat, xc_int, xc_long, xc_float, xc_double, xc_ref]) ha1 e0 em1 em2 (K_X1_agreeing hG a1 p1 _ _ _ e) (fun v5 h4 e => ?_) (fun E8 q9 h10 e => ?_)
  · refine xw_i2l (show xm_Imp g Γ 7 (xi_i2l 8) from xs_i2l hΓ dX0_agreeing_7) ?_
    obtain ⟨a6, ha6, e⟩ := e
    obtain ⟨h7, e1, e⟩ := e
    refine xw_hlas (o := p2) (show xm_Imp g Γ 8 (xi_las 9) from xs_las hG hΓ dX0_agreeing_8) ha6 e1 ?_
    refine xw_goto (show xm_Imp g Γ 9 (xi_goto 18) from xs_goto hΓ dX0_agreeing_9 (by decide)) ?_
    refine xw_psh (v := (.int (0))) (show xm_Imp g Γ 18 (xi_psh (.int (0)) 19) from xs_iconst hΓ dX0_agreeing_18 (by decide)) ?_
    exact xw_iret (show xm_Imp g Γ 19 (xi_iret .int _) from xs_ireturn hΓ rfl dX0_agreeing_19) (xn_int _) ⟨_, rfl, e⟩
  rcases e with ⟨ec, e⟩ | ⟨ec, e⟩
  · refine Or.inl ⟨ec, ?_⟩
    refine xw_ast (ls' := [some (va_rf p0), some (.int p1), some (va_rf p2), some (.ref q9)]) (show xm_Imp g Γ 12 (xi_ast 3 13) from xs_astore_n hΓ dX0_agreeing_12 (Nat.le_of_ble_eq_true rfl)) ((xm_s1_o (o := p2) rfl).trans rfl) ?_
    refine xw_psh (v := (.int (1))) (show xm_Imp g Γ 13 (xi_psh (.int (1)) 14) from xs_iconst hΓ dX0_agreeing_13 (by decide)) ?_
    exact xw_iret (show xm_Imp g Γ 14 (xi_iret .int _) from xs_ireturn hΓ rfl dX0_agreeing_14) (xn_int _) ⟨_, rfl, e⟩
  refine Or.inr ⟨ec, ?_⟩
  rcases e with ⟨ec, e⟩ | ⟨ec, e⟩
  · refine Or.inl ⟨ec, ?_⟩
    refine xw_ast (ls' := [some (va_rf p0), some (.int p1), some (va_rf p2), some (.ref q9)]) (show xm_Imp g Γ 15 (xi_ast 3 16) from xs_astore_n hΓ dX0_agreeing_15 (Nat.le_of_ble_eq_true rfl)) ((xm_s1_o (o := p2) rfl).trans rfl) ?_
    refine xw_psh (v := (.int (2))) (show xm_Imp g Γ 16 (xi_psh (.int (2)) 17) from xs_iconst hΓ dX0_agreeing_16 (by decide)) ?_
    exact xw_iret (show xm_Imp g Γ 17 (xi_iret .int _) from xs_ireturn hΓ rfl dX0_agreeing_17) (xn_int _) ⟨_, rfl, e⟩
  refine Or.inr ⟨ec, ?_⟩
  exact e.elim
noncomputable def F_X0_outsiders (g : xm_G) (p0 : Option Nat) (p1 : Int32) (p2 : Option Nat) (h : xm_H) (bc : Nat) (bs : Nat) (Q : Int32 → xm_H → Prop) : Prop :=
 xt_b p0 (fun a1 =>
 xt_b (xh_is 0 h a1) (fun _ =>
 xt_c bc bs (fun m2 m3 => F_X1_outsiders g a1 p1 h m2 m3 (fun v5 h4 =>
 xt_b p2 (fun a6 =>
 xt_b (xh_sl h4 a6 0 v5.toInt64) (fun h7 =>
 Q 0 h7))) (fun E8 q9 h10 => xt_h E8 [("java/lang/IndexOutOfBoundsException", Q 1 h10), ("java/lang/IllegalStateException", Q 2 h10)]))))
set_option maxHeartbeats 4000000 in
theorem K_X0_outsiders {g : xm_G} (hG : xm_Gw g) (p0 : Option Nat) (p1 : Int32) (p2 : Option Nat) (h : xm_H) (bc : Nat) (bs : Nat) {Q : Int32 → xm_H → Prop} (e : F_X0_outsiders g p0 p1 p2 h bc bs Q) : xm_Run g M_X0_outsiders 11 [va_rf p0, .int p1, va_rf p2] h bc bs (fun v h' => ∃ r, v = some (.int r) ∧ Q r h') xm_no := by
  refine xm_Run.of2 (ls := [some (va_rf p0), some (.int p1), some (va_rf p2), none]) pn_StringTableauLaw (by cases p0 <;> cases p2 <;> exact Nat.le_of_ble_eq_true rfl) (by cases p0 <;> cases p2 <;> rfl) (fun Γ hΓ => ?_)
  show xm_W g Γ 0 [some (va_rf p0), some (.int p1), some (va_rf p2), none] [] h bc bs
  unfold F_X0_outsiders at e
  refine xw_aldo (x := p2) (show xm_Imp g Γ 0 (xi_ald 2 1) from xs_aload_n hΓ dX0_outsiders_0) rfl ?_
  refine xw_psh (v := (.int (0))) (show xm_Imp g Γ 1 (xi_psh (.int (0)) 2) from xs_iconst hΓ dX0_outsiders_1 (by decide)) ?_
  refine xw_aldo (x := p0) (show xm_Imp g Γ 2 (xi_ald 0 3) from xs_aload_n hΓ dX0_outsiders_2) rfl ?_
  refine xw_ild (show xm_Imp g Γ 3 (xi_ild 1 4) from xs_iload_n hΓ dX0_outsiders_3) rfl ?_
  obtain ⟨a1, ha1, e⟩ := e
  obtain ⟨_, e0, e⟩ := e
  obtain ⟨m2, m3, ⟨em1, em2⟩, e⟩ := e
  refine xw_tHvi1 (o := p0) (show xm_Imp g Γ 4 (xi_virH g 0 M_X1_outsiders 10 1 7 [("java/lang/IndexOutOfBoundsException", 12), ("java/lang/IllegalStateException", 15)]) from xs_invVH hG hΓ k_X1_outsiders rfl (hs0 := [("java/lang/IndexOutOfBoundsException", 12), ("java/lang/IllegalStateException", 15)]) (xm_cov1 (by decide) (by decide) q1830 (xm_cov1 (by decide) (by decide) q1880 (xm_covN _ _ _))) (ci := 0) rfl q2775 q2776 q2777 dX0_outsiders_4) (by simp [xm_stk, xv_cat, xc_int, xc_long, xc_float, xc_double, xc_ref]) ha1 e0 em1 em2 (K_X1_outsiders hG a1 p1 _ _ _ e) (fun v5 h4 e => ?_) (fun E8 q9 h10 e => ?_)
  · refine xw_i2l (show xm_Imp g Γ 7 (xi_i2l 8) from xs_i2l hΓ dX0_outsiders_7) ?_
    obtain ⟨a6, ha6, e⟩ := e
    obtain ⟨h7, e1, e⟩ := e
    refine xw_hlas (o := p2) (show xm_Imp g Γ 8 (xi_las 9) from xs_las hG hΓ dX0_outsiders_8) ha6 e1 ?_
    refine xw_goto (show xm_Imp g Γ 9 (xi_goto 18) from xs_goto hΓ dX0_outsiders_9 (by decide)) ?_
    refine xw_psh (v := (.int (0))) (show xm_Imp g Γ 18 (xi_psh (.int (0)) 19) from xs_iconst hΓ dX0_outsiders_18 (by decide)) ?_
    exact xw_iret (show xm_Imp g Γ 19 (xi_iret .int _) from xs_ireturn hΓ rfl dX0_outsiders_19) (xn_int _) ⟨_, rfl, e⟩
  rcases e with ⟨ec, e⟩ | ⟨ec, e⟩
  · refine Or.inl ⟨ec, ?_⟩
    refine xw_ast (ls' := [some (va_rf p0), some (.int p1), some (va_rf p2), some (.ref q9)]) (show xm_Imp g Γ 12 (xi_ast 3 13) from xs_astore_n hΓ dX0_outsiders_12 (Nat.le_of_ble_eq_true rfl)) ((xm_s1_o (o := p2) rfl).trans rfl) ?_
    refine xw_psh (v := (.int (1))) (show xm_Imp g Γ 13 (xi_psh (.int (1)) 14) from xs_iconst hΓ dX0_outsiders_13 (by decide)) ?_
    exact xw_iret (show xm_Imp g Γ 14 (xi_iret .int _) from xs_ireturn hΓ rfl dX0_outsiders_14) (xn_int _) ⟨_, rfl, e⟩
  refine Or.inr ⟨ec, ?_⟩
  rcases e with ⟨ec, e⟩ | ⟨ec, e⟩
  · refine Or.inl ⟨ec, ?_⟩
    refine xw_ast (ls' := [some (va_rf p0), some (.int p1), some (va_rf p2), some (.ref q9)]) (show xm_Imp g Γ 15 (xi_ast 3 16) from xs_astore_n hΓ dX0_outsiders_15 (Nat.le_of_ble_eq_true rfl)) ((xm_s1_o (o := p2) rfl).trans rfl) ?_
    refine xw_psh (v := (.int (2))) (show xm_Imp g Γ 16 (xi_psh (.int (2)) 17) from xs_iconst hΓ dX0_outsiders_16 (by decide)) ?_
    exact xw_iret (show xm_Imp g Γ 17 (xi_iret .int _) from xs_ireturn hΓ rfl dX0_outsiders_17) (xn_int _) ⟨_, rfl, e⟩
  refine Or.inr ⟨ec, ?_⟩
  exact e.elim
noncomputable def F_X0_innerSquare (g : xm_G) (p0 : Option Nat) (p1 : Int32) (p2 : Option Nat) (h : xm_H) (bc : Nat) (bs : Nat) (Q : Int32 → xm_H → Prop) : Prop :=
 xt_b p0 (fun a1 =>
 xt_b (xh_is 0 h a1) (fun _ =>
 xt_c bc bs (fun m2 m3 => F_X1_innerSquare g a1 p1 h m2 m3 (fun v5 h4 =>
 xt_b (xo_g (vf_n64 (FP.f2d v5))) (fun u6 =>
 xt_b p2 (fun a7 =>
 xt_b (xh_sd h4 a7 0 (FP.f2d v5)) (fun h8 =>
 Q 0 h8)))) (fun E9 q10 h11 => xt_h E9 [("java/lang/IndexOutOfBoundsException", Q 1 h11), ("java/lang/IllegalStateException", Q 2 h11)]))))
set_option maxHeartbeats 4000000 in
theorem K_X0_innerSquare {g : xm_G} (hG : xm_Gw g) (p0 : Option Nat) (p1 : Int32) (p2 : Option Nat) (h : xm_H) (bc : Nat) (bs : Nat) {Q : Int32 → xm_H → Prop} (e : F_X0_innerSquare g p0 p1 p2 h bc bs Q) : xm_Run g M_X0_innerSquare 12 [va_rf p0, .int p1, va_rf p2] h bc bs (fun v h' => ∃ r, v = some (.int r) ∧ Q r h') xm_no := by
  refine xm_Run.of2 (ls := [some (va_rf p0), some (.int p1), some (va_rf p2), none]) pn_StringTableauLaw (by cases p0 <;> cases p2 <;> exact Nat.le_of_ble_eq_true rfl) (by cases p0 <;> cases p2 <;> rfl) (fun Γ hΓ => ?_)
  show xm_W g Γ 0 [some (va_rf p0), some (.int p1), some (va_rf p2), none] [] h bc bs
  unfold F_X0_innerSquare at e
  refine xw_aldo (x := p2) (show xm_Imp g Γ 0 (xi_ald 2 1) from xs_aload_n hΓ dX0_innerSquare_0) rfl ?_
  refine xw_psh (v := (.int (0))) (show xm_Imp g Γ 1 (xi_psh (.int (0)) 2) from xs_iconst hΓ dX0_innerSquare_1 (by decide)) ?_
  refine xw_aldo (x := p0) (show xm_Imp g Γ 2 (xi_ald 0 3) from xs_aload_n hΓ dX0_innerSquare_2) rfl ?_
  refine xw_ild (show xm_Imp g Γ 3 (xi_ild 1 4) from xs_iload_n hΓ dX0_innerSquare_3) rfl ?_
  obtain ⟨a1, ha1, e⟩ := e
  obtain ⟨_, e0, e⟩ := e
  obtain ⟨m2, m3, ⟨em1, em2⟩, e⟩ := e
  refine xw_tHvf1 (o := p0) (show xm_Imp g Γ 4 (xi_virH g 0 M_X1_innerSquare 11 1 7 [("java/lang/IndexOutOfBoundsException", 12), ("java/lang/IllegalStateException", 15)]) from xs_invVH hG hΓ k_X1_innerSquare rfl (hs0 := [("java/lang/IndexOutOfBoundsException", 12), ("java/lang/IllegalStateException", 15)]) (xm_cov1 (by decide) (by decide) q1830 (xm_cov1 (by decide) (by decide) q1880 (xm_covN _ _ _))) (ci := 0) rfl q2835 q2836 q2837 dX0_innerSquare_4) (by simp [xm_stk, xv_cat, xc_int, xc_long, xc_float, xc_double, xc_ref]) ha1 e0 em1 em2 (K_X1_innerSquare hG a1 p1 _ _ _ e) (fun v5 h4 e => ?_) (fun E9 q10 h11 e => ?_)
  · obtain ⟨u6, e1, e⟩ := e
    refine xw_f2d (show xm_Imp g Γ 7 (xi_f2d 8) from xs_f2d hΓ dX0_innerSquare_7) (xo_g_s e1) ?_
    obtain ⟨a7, ha7, e⟩ := e
    obtain ⟨h8, e1, e⟩ := e
    refine xw_hdas (o := p2) (show xm_Imp g Γ 8 (xi_das 9) from xs_das hG hΓ dX0_innerSquare_8) ha7 e1 ?_
    refine xw_goto (show xm_Imp g Γ 9 (xi_goto 18) from xs_goto hΓ dX0_innerSquare_9 (by decide)) ?_
    refine xw_psh (v := (.int (0))) (show xm_Imp g Γ 18 (xi_psh (.int (0)) 19) from xs_iconst hΓ dX0_innerSquare_18 (by decide)) ?_
    exact xw_iret (show xm_Imp g Γ 19 (xi_iret .int _) from xs_ireturn hΓ rfl dX0_innerSquare_19) (xn_int _) ⟨_, rfl, e⟩
  rcases e with ⟨ec, e⟩ | ⟨ec, e⟩
  · refine Or.inl ⟨ec, ?_⟩
    refine xw_ast (ls' := [some (va_rf p0), some (.int p1), some (va_rf p2), some (.ref q10)]) (show xm_Imp g Γ 12 (xi_ast 3 13) from xs_astore_n hΓ dX0_innerSquare_12 (Nat.le_of_ble_eq_true rfl)) ((xm_s1_o (o := p2) rfl).trans rfl) ?_
    refine xw_psh (v := (.int (1))) (show xm_Imp g Γ 13 (xi_psh (.int (1)) 14) from xs_iconst hΓ dX0_innerSquare_13 (by decide)) ?_
    exact xw_iret (show xm_Imp g Γ 14 (xi_iret .int _) from xs_ireturn hΓ rfl dX0_innerSquare_14) (xn_int _) ⟨_, rfl, e⟩
  refine Or.inr ⟨ec, ?_⟩
  rcases e with ⟨ec, e⟩ | ⟨ec, e⟩
  · refine Or.inl ⟨ec, ?_⟩
    refine xw_ast (ls' := [some (va_rf p0), some (.int p1), some (va_rf p2), some (.ref q10)]) (show xm_Imp g Γ 15 (xi_ast 3 16) from xs_astore_n hΓ dX0_innerSquare_15 (Nat.le_of_ble_eq_true rfl)) ((xm_s1_o (o := p2) rfl).trans rfl) ?_
    refine xw_psh (v := (.int (2))) (show xm_Imp g Γ 16 (xi_psh (.int (2)) 17) from xs_iconst hΓ dX0_innerSquare_16 (by decide)) ?_
    exact xw_iret (show xm_Imp g Γ 17 (xi_iret .int _) from xs_ireturn hΓ rfl dX0_innerSquare_17) (xn_int _) ⟨_, rfl, e⟩
  refine Or.inr ⟨ec, ?_⟩
  exact e.elim
