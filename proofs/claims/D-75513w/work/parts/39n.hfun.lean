/-! METHODS ON KNOWN CELLS as functions (printed by gen/mkhfun.py) -/
set_option maxRecDepth 100000
noncomputable def F_J26_put (g : xm_G) (p0 : Nat) (p1 : Option Nat) (p2 : Option Nat) (h : xm_H) (bc : Nat) (bs : Nat) (Q : Option Nat → xm_H → Prop) : Prop :=
 xt_b (F_J26_hash g p1 h) (fun v1 =>
 xt_b (xh_ci h p0) (fun c2 =>
 (if c2 = 17 then
 xt_c bc bs (fun m3 m4 => F_J26_putVal g p0 v1 p1 p2 0 1 h m3 m4 (fun v6 h5 =>
 Q v6 h5)) else
 (if c2 = 18 then
 xt_c bc bs (fun m7 m8 => F_J26_putVal g p0 v1 p1 p2 0 1 h m7 m8 (fun v10 h9 =>
 Q v10 h9)) else
 False))))
set_option maxHeartbeats 4000000 in
theorem K_J26_put {g : xm_G} (hG : xm_Gw g) (p0 : Nat) (p1 : Option Nat) (p2 : Option Nat) (h : xm_H) (bc : Nat) (bs : Nat) {Q : Option Nat → xm_H → Prop} (e : F_J26_put g p0 p1 p2 h bc bs Q) : xm_Run g M_J26_put 8 [.ref p0, va_rf p1, va_rf p2] h bc bs (fun v h' => ∃ r, v = some (va_rf r) ∧ Q r h') xm_no := by
  refine xm_Run.of2 (ls := [some (.ref p0), some (va_rf p1), some (va_rf p2)]) pn_java_util_HashMap (by cases p1 <;> cases p2 <;> exact Nat.le_of_ble_eq_true rfl) (by cases p1 <;> cases p2 <;> rfl) (fun Γ hΓ => ?_)
  show xm_W g Γ 0 [some (.ref p0), some (va_rf p1), some (va_rf p2)] [] h bc bs
  unfold F_J26_put at e
  refine xw_ald (show xm_Imp g Γ 0 (xi_ald 0 1) from xs_aload_n hΓ dJ26_put_0) rfl ?_
  refine xw_aldo (x := p1) (show xm_Imp g Γ 1 (xi_ald 1 2) from xs_aload_n hΓ dJ26_put_1) rfl ?_
  obtain ⟨v1, e1, e⟩ := e
  refine xw_sv1 (show xm_Imp g Γ 2 (xi_inv g M_J26_hash 2 1 5) from xs_invS hG hΓ k_J26_hash rfl q2240 q2241 dJ26_put_2) rfl (fun Q X hQ => K_J26_hash hG p1 _ e1 hQ) ?_
  refine xw_aldo (x := p1) (show xm_Imp g Γ 5 (xi_ald 1 6) from xs_aload_n hΓ dJ26_put_5) rfl ?_
  refine xw_aldo (x := p2) (show xm_Imp g Γ 6 (xi_ald 2 7) from xs_aload_n hΓ dJ26_put_6) rfl ?_
  refine xw_psh (v := (.int (0))) (show xm_Imp g Γ 7 (xi_psh (.int (0)) 8) from xs_iconst hΓ dJ26_put_7 (by decide)) ?_
  refine xw_psh (v := (.int (1))) (show xm_Imp g Γ 8 (xi_psh (.int (1)) 9) from xs_iconst hΓ dJ26_put_8 (by decide)) ?_
  obtain ⟨c2, e0, e⟩ := e
  by_cases cc0 : c2 = 17
  · rw [if_pos cc0] at e
    obtain ⟨m3, m4, ⟨em1, em2⟩, e⟩ := e
    refine xw_tvr5 (o := (some p0)) (xm_or1 (show xm_Imp g Γ 9 (xi_or (xi_vir g 17 M_J26_putVal 7 5 12) (xi_vir g 18 M_J26_putVal 7 5 12)) from xs_or (xs_invV hG hΓ k_J26_putVal rfl (ci := 17) rfl q2277 q2278 q2279 dJ26_put_9) (xs_invU hG hΓ (owner := "java/util/HashMap") k_J26_putVal rfl (ci := 18) rfl q2277 q2280 q2278 q2281 rfl ⟨by decide, by decide⟩ (by decide +kernel) dJ26_put_9))) rfl rfl (xh_is_of e0 cc0) em1 em2 (K_J26_putVal hG p0 v1 p1 p2 0 1 _ _ _ e) (fun v6 h5 e => ?_)
    exact xw_areto (show xm_Imp g Γ 12 (xi_aret _) from xs_areturn hΓ rfl (Or.inl ⟨_, rfl⟩) dJ26_put_12) ⟨_, rfl, e⟩
  rw [if_neg cc0] at e
  by_cases cc1 : c2 = 18
  · rw [if_pos cc1] at e
    obtain ⟨m7, m8, ⟨em1, em2⟩, e⟩ := e
    refine xw_tvr5 (o := (some p0)) (xm_or2 (show xm_Imp g Γ 9 (xi_or (xi_vir g 17 M_J26_putVal 7 5 12) (xi_vir g 18 M_J26_putVal 7 5 12)) from xs_or (xs_invV hG hΓ k_J26_putVal rfl (ci := 17) rfl q2277 q2278 q2279 dJ26_put_9) (xs_invU hG hΓ (owner := "java/util/HashMap") k_J26_putVal rfl (ci := 18) rfl q2277 q2280 q2278 q2281 rfl ⟨by decide, by decide⟩ (by decide +kernel) dJ26_put_9))) rfl rfl (xh_is_of e0 cc1) em1 em2 (K_J26_putVal hG p0 v1 p1 p2 0 1 _ _ _ e) (fun v10 h9 e => ?_)
    exact xw_areto (show xm_Imp g Γ 12 (xi_aret _) from xs_areturn hΓ rfl (Or.inl ⟨_, rfl⟩) dJ26_put_12) ⟨_, rfl, e⟩
  rw [if_neg cc1] at e
  exact e.elim
noncomputable def D_X3_signs_19 (g : xm_G) (l1 : Option Nat) (l2 : Option Nat) (l3 : Int32) (Q : Option Nat → xm_H → Prop) (k19 : Int32 × xm_H × Nat × Nat → Prop) (s : Int32 × xm_H × Nat × Nat) : Prop :=
 (if l3 ≤ s.1 then
 Q l1 s.2.1 else
 xt_b l2 (fun a9 =>
 xt_b (xh_ar "StringTableau$Row" s.2.1 a9 s.1) (fun v10 =>
 xt_b v10 (fun a11 =>
 xt_b (xh_is 3 s.2.1 a11) (fun _ =>
 xt_c s.2.2.1 s.2.2.2 (fun m12 m13 => F_X4_word g a11 s.2.1 m12 m13 (fun v15 h14 =>
 xt_b (xh_fi [(3, 2)] h14 a11) (fun v16 =>
 xt_b (F_J28_valueOf g v16 h14) (fun v17 =>
 xt_b l1 (fun a18 =>
 xt_b (xh_ci h14 a18) (fun c19 =>
 (if c19 = 17 then
 xt_c (s.2.2.1 - m12) (s.2.2.2 - m13) (fun m20 m21 => F_J26_put g a18 v15 v17 h14 m20 m21 (fun v23 h22 =>
 k19 ((s.1 + 1), h22, ((s.2.2.1 - m12) - m20), ((s.2.2.2 - m13) - m21)))) else
 (if c19 = 18 then
 xt_c (s.2.2.1 - m12) (s.2.2.2 - m13) (fun m24 m25 => F_J26_put g a18 v15 v17 h14 m24 m25 (fun v27 h26 =>
 k19 ((s.1 + 1), h26, ((s.2.2.1 - m12) - m24), ((s.2.2.2 - m13) - m25)))) else
 False)))))))))))))
noncomputable def L_X3_signs_19 (g : xm_G) (l1 : Option Nat) (l2 : Option Nat) (l3 : Int32) (Q : Option Nat → xm_H → Prop) (s : Int32 × xm_H × Nat × Nat) : Prop := xt_loop (D_X3_signs_19 g l1 l2 l3 Q) s
noncomputable def F_X3_signs (g : xm_G) (p0 : Nat) (h : xm_H) (bc : Nat) (bs : Nat) (Q : Option Nat → xm_H → Prop) : Prop :=
 xt_new h bc bs 12 (.inr (18, [.null, .null, .null, .null, .int 0, .int 0, .int 0, .float 0, .null, .null, .int 0, .int 0])) (fun a1 h2 b3 b4 =>
 xt_b (F_J27_init g a1 h2) (fun v5 =>
 xt_b (xh_fr [(2, 0)] v5 p0) (fun v6 =>
 xt_b v6 (fun a7 =>
 xt_b (xh_len v5 a7) (fun v8 =>
 L_X3_signs_19 g (some a1) v6 v8 Q (0, v5, b3, b4))))))
set_option maxHeartbeats 4000000 in
theorem K_X3_signs {g : xm_G} (hG : xm_Gw g) (p0 : Nat) (h : xm_H) (bc : Nat) (bs : Nat) {Q : Option Nat → xm_H → Prop} (e : F_X3_signs g p0 h bc bs Q) : xm_Run g M_X3_signs 9 [.ref p0] h bc bs (fun v h' => ∃ r, v = some (va_rf r) ∧ Q r h') xm_no := by
  refine xm_Run.of pn_StringTableau_Tableau (Nat.le_of_ble_eq_true rfl) (fun Γ hΓ => ?_)
  show xm_W g Γ 0 [some (.ref p0), none, none, none, none, none] [] h bc bs
  have hL_19 : ∀ (l1 : Option Nat) (l2 : Option Nat) (l3 : Int32) (s : Int32 × xm_H × Nat × Nat), L_X3_signs_19 g l1 l2 l3 Q s → xm_W g Γ 19 [none, some (va_rf l1), some (va_rf l2), some (.int l3), some (.int s.1), none] [] s.2.1 s.2.2.1 s.2.2.2 := by
    intro l1 l2 l3
    refine xt_rule (WS := fun s : Int32 × xm_H × Nat × Nat => xm_W g Γ 19 [none, some (va_rf l1), some (va_rf l2), some (.int l3), some (.int s.1), none] [] s.2.1 s.2.2.1 s.2.2.2) ?_
    intro k19 hk19 s e
    unfold D_X3_signs_19 at e
    refine xw_ild (show xm_Imp g Γ 19 (xi_ild 4 21) from xs_iload hΓ dX3_signs_19) rfl ?_
    refine xw_ild (show xm_Imp g Γ 21 (xi_ild 3 22) from xs_iload_n hΓ dX3_signs_21) rfl ?_
    refine xw_ic (show xm_Imp g Γ 22 (xi_ic (fun x y => y ≤ x) 57 25) from xs_icmp_ge hΓ dX3_signs_22 (by decide)) (fun c => ?_) (fun c => ?_)
    · rw [if_pos c] at e
      refine xw_aldo (x := l1) (show xm_Imp g Γ 57 (xi_ald 1 58) from xs_aload_n hΓ dX3_signs_57) rfl ?_
      exact xw_areto (show xm_Imp g Γ 58 (xi_aret _) from xs_areturn hΓ rfl (Or.inl ⟨_, rfl⟩) dX3_signs_58) ⟨_, rfl, e⟩
    · rw [if_neg c] at e
      refine xw_aldo (x := l2) (show xm_Imp g Γ 25 (xi_ald 2 26) from xs_aload_n hΓ dX3_signs_25) rfl ?_
      refine xw_ild (show xm_Imp g Γ 26 (xi_ild 4 28) from xs_iload hΓ dX3_signs_26) rfl ?_
      obtain ⟨a9, ha9, e⟩ := e
      obtain ⟨v10, e1, e⟩ := e
      refine xw_haal (o := l2) (show xm_Imp g Γ 28 (xi_aal "StringTableau$Row" 29) from xs_aal hG hΓ dX3_signs_28) ha9 e1 ?_
      refine xw_asto (x := v10) (ls' := [none, some (va_rf l1), some (va_rf l2), some (.int l3), some (.int s.1), some (va_rf v10)]) (show xm_Imp g Γ 29 (xi_ast 5 31) from xs_astore hΓ dX3_signs_29 (Nat.le_of_ble_eq_true rfl)) rfl ?_
      refine xw_aldo (x := l1) (show xm_Imp g Γ 31 (xi_ald 1 32) from xs_aload_n hΓ dX3_signs_31) rfl ?_
      refine xw_aldo (x := v10) (show xm_Imp g Γ 32 (xi_ald 5 34) from xs_aload hΓ dX3_signs_32) rfl ?_
      obtain ⟨a11, ha11, e⟩ := e
      obtain ⟨_, e0, e⟩ := e
      obtain ⟨m12, m13, ⟨em1, em2⟩, e⟩ := e
      refine xw_tvr0 (o := v10) (show xm_Imp g Γ 34 (xi_vir g 3 M_X4_word 3 0 37) from xs_invV hG hΓ k_X4_word rfl (ci := 3) rfl q2206 q2207 q2208 dX3_signs_34) (by simp [xm_stk, xv_cat, xc_int, xc_long, xc_float, xc_double, xc_ref]) ha11 e0 em1 em2 (K_X4_word hG a11 _ _ _ e) (fun v15 h14 e => ?_)
      refine xw_aldo (x := v10) (show xm_Imp g Γ 37 (xi_ald 5 39) from xs_aload hΓ dX3_signs_37) rfl ?_
      obtain ⟨v16, e1, e⟩ := e
      refine xw_gi1 (o := v10) (show xm_Imp g Γ 39 (xi_get 3 2 42) from xs_getN hG hΓ (ci := 3) (kf := 2) rfl (Nat.le_of_ble_eq_true rfl) q257 dX3_signs_39) ha11 e1 ?_
      obtain ⟨v17, e1, e⟩ := e
      refine xw_sv1 (show xm_Imp g Γ 42 (xi_inv g M_J28_valueOf 1 1 45) from xs_invS hG hΓ k_J28_valueOf rfl q2223 q2224 dX3_signs_42) (by simp [xm_stk, xv_cat, xc_int, xc_long, xc_float, xc_double, xc_ref]) (fun Q X hQ => K_J28_valueOf hG v16 _ e1 hQ) ?_
      obtain ⟨a18, ha18, e⟩ := e
      obtain ⟨c19, e0, e⟩ := e
      by_cases cc0 : c19 = 17
      · rw [if_pos cc0] at e
        obtain ⟨m20, m21, ⟨em1, em2⟩, e⟩ := e
        refine xw_tvr2 (o := l1) (xm_or1 (show xm_Imp g Γ 45 (xi_or (xi_vir g 17 M_J26_put 8 2 50) (xi_vir g 18 M_J26_put 8 2 50)) from xs_or (xs_invF hG hΓ k_J26_put rfl (ci := 17) rfl q2231 q2237 q2235 ⟨by decide, by decide⟩ (by decide +kernel) q2233 q2232 q2238 q2236 q2234 dX3_signs_45) (xs_invF hG hΓ k_J26_put rfl (ci := 18) rfl q2231 q2237 q2723 ⟨by decide, by decide⟩ (by decide +kernel) q2233 q2232 q2238 q2724 q2722 dX3_signs_45))) (by simp [xm_stk, xv_cat, xc_int, xc_long, xc_float, xc_double, xc_ref]) ha18 (xh_is_of e0 cc0) em1 em2 (K_J26_put hG a18 v15 v17 _ _ _ e) (fun v23 h22 e => ?_)
        refine xw_pop (show xm_Imp g Γ 50 (xi_pop 51) from xs_pop hΓ dX3_signs_50) (xm_c1_rf v23) ?_
        refine xw_inc (v := (1)) (ls' := [none, some (va_rf l1), some (va_rf l2), some (.int l3), some (.int (s.1 + 1)), some (va_rf v10)]) (show xm_Imp g Γ 51 (xi_inc 4 (1) 54) from xs_iinc hΓ dX3_signs_51 (by decide) (Nat.le_of_ble_eq_true rfl)) rfl rfl ?_
        refine xw_goto (show xm_Imp g Γ 54 (xi_goto 19) from xs_goto hΓ dX3_signs_54 (by decide)) ?_
        have hq := hk19 _ e; exact xm_lx (hq) (And.intro rfl (And.intro rfl (And.intro rfl (And.intro rfl (trivial)))))
      rw [if_neg cc0] at e
      by_cases cc1 : c19 = 18
      · rw [if_pos cc1] at e
        obtain ⟨m24, m25, ⟨em1, em2⟩, e⟩ := e
        refine xw_tvr2 (o := l1) (xm_or2 (show xm_Imp g Γ 45 (xi_or (xi_vir g 17 M_J26_put 8 2 50) (xi_vir g 18 M_J26_put 8 2 50)) from xs_or (xs_invF hG hΓ k_J26_put rfl (ci := 17) rfl q2231 q2237 q2235 ⟨by decide, by decide⟩ (by decide +kernel) q2233 q2232 q2238 q2236 q2234 dX3_signs_45) (xs_invF hG hΓ k_J26_put rfl (ci := 18) rfl q2231 q2237 q2723 ⟨by decide, by decide⟩ (by decide +kernel) q2233 q2232 q2238 q2724 q2722 dX3_signs_45))) (by simp [xm_stk, xv_cat, xc_int, xc_long, xc_float, xc_double, xc_ref]) ha18 (xh_is_of e0 cc1) em1 em2 (K_J26_put hG a18 v15 v17 _ _ _ e) (fun v27 h26 e => ?_)
        refine xw_pop (show xm_Imp g Γ 50 (xi_pop 51) from xs_pop hΓ dX3_signs_50) (xm_c1_rf v27) ?_
        refine xw_inc (v := (1)) (ls' := [none, some (va_rf l1), some (va_rf l2), some (.int l3), some (.int (s.1 + 1)), some (va_rf v10)]) (show xm_Imp g Γ 51 (xi_inc 4 (1) 54) from xs_iinc hΓ dX3_signs_51 (by decide) (Nat.le_of_ble_eq_true rfl)) rfl rfl ?_
        refine xw_goto (show xm_Imp g Γ 54 (xi_goto 19) from xs_goto hΓ dX3_signs_54 (by decide)) ?_
        have hq := hk19 _ e; exact xm_lx (hq) (And.intro rfl (And.intro rfl (And.intro rfl (And.intro rfl (trivial)))))
      rw [if_neg cc1] at e
      exact e.elim
  unfold F_X3_signs at e
  refine xw_new (show xm_Imp g Γ 0 (xi_new 18 12 [.null, .null, .null, .null, .int 0, .int 0, .int 0, .float 0, .null, .null, .int 0, .int 0] 3) from xs_new hG hΓ (ci := 18) rfl q2157 q2158 q161 rfl tyJ27 tyJ27_ok (xm_df 12 (by decide +kernel)) dX3_signs_0) e (fun a1 h2 b3 b4 e => ?_)
  refine xw_dup (show xm_Imp g Γ 3 (xi_dup 4) from xs_dup hΓ dX3_signs_3) rfl ?_
  obtain ⟨v5, e1, e⟩ := e
  refine xw_pu0 (o := (some a1)) (show xm_Imp g Γ 4 (xi_spe g M_J27_init 4 0 7) from xs_invI hG hΓ k_J27_init rfl q2159 q2160 rfl dX3_signs_4) rfl rfl (fun Q X hQ => K_J27_init hG a1 _ e1 hQ) ?_
  refine xw_ast (ls' := [some (.ref p0), some (.ref a1), none, none, none, none]) (show xm_Imp g Γ 7 (xi_ast 1 8) from xs_astore_n hΓ dX3_signs_7 (Nat.le_of_ble_eq_true rfl)) rfl ?_
  refine xw_ald (show xm_Imp g Γ 8 (xi_ald 0 9) from xs_aload_n hΓ dX3_signs_8) rfl ?_
  obtain ⟨v6, e1, e⟩ := e
  refine xw_gr1 (o := (some p0)) (show xm_Imp g Γ 9 (xi_get 2 0 12) from xs_get hG hΓ (ci := 2) (kf := 0) rfl (Nat.le_of_ble_eq_true rfl) q268 dX3_signs_9) rfl e1 ?_
  refine xw_asto (x := v6) (ls' := [some (.ref p0), some (.ref a1), some (va_rf v6), none, none, none]) (show xm_Imp g Γ 12 (xi_ast 2 13) from xs_astore_n hΓ dX3_signs_12 (Nat.le_of_ble_eq_true rfl)) rfl ?_
  refine xw_aldo (x := v6) (show xm_Imp g Γ 13 (xi_ald 2 14) from xs_aload_n hΓ dX3_signs_13) rfl ?_
  obtain ⟨a7, ha7, e⟩ := e
  obtain ⟨v8, e1, e⟩ := e
  refine xw_hlen (o := v6) (show xm_Imp g Γ 14 (xi_len 15) from xs_len hG hΓ dX3_signs_14) ha7 e1 ?_
  refine xw_ist (ls' := [some (.ref p0), some (.ref a1), some (va_rf v6), some (.int v8), none, none]) (show xm_Imp g Γ 15 (xi_ist 3 16) from xs_istore_n hΓ dX3_signs_15 (Nat.le_of_ble_eq_true rfl)) ((xm_s1_o (o := v6) rfl).trans rfl) ?_
  refine xw_psh (v := (.int (0))) (show xm_Imp g Γ 16 (xi_psh (.int (0)) 17) from xs_iconst hΓ dX3_signs_16 (by decide)) ?_
  refine xw_ist (ls' := [some (.ref p0), some (.ref a1), some (va_rf v6), some (.int v8), some (.int 0), none]) (show xm_Imp g Γ 17 (xi_ist 4 19) from xs_istore hΓ dX3_signs_17 (Nat.le_of_ble_eq_true rfl)) rfl ?_
  exact xm_lx (hL_19 _ _ _ _ e) (And.intro rfl (And.intro rfl (And.intro rfl (And.intro rfl (trivial)))))
noncomputable def B_J26_getNode_137 (g : xm_G) (l1 : Option Nat) (l4 : Option Nat) (l6 : Int32) (h : xm_H) : Option ((Option Nat) ⊕ (Option Nat)) :=
 xo_b l4 (fun a15 =>
 xo_b (xh_fr [(19, 3), (20, 3)] h a15) (fun v16 =>
 (if v16 = none then
 xl_o (some none) else
 some (Sum.inl v16))))
noncomputable def D_J26_getNode_99 (g : xm_G) (l1 : Option Nat) (l6 : Int32) (h : xm_H) (s : Option Nat) : Option ((Option Nat) ⊕ (Option Nat)) :=
 xo_b s (fun a12 =>
 xo_b (xh_fi [(19, 0), (20, 0)] h a12) (fun v13 =>
 (if v13 = l6 then
 xo_b (xh_fr [(19, 1), (20, 1)] h a12) (fun v14 =>
 (if v14 = l1 then
 xl_o (some s) else
 (if l1 = none then
 B_J26_getNode_137 g l1 s l6 h else
 xo_b l1 (fun a17 =>
 xo_b (xh_is 11 h a17) (fun _ =>
 xo_b (F_X13_equals g a17 v14 h) (fun v18 =>
 (if v18 = 0 then
 B_J26_getNode_137 g l1 s l6 h else
 xl_o (some s)))))))) else
 B_J26_getNode_137 g l1 s l6 h)))
noncomputable def L_J26_getNode_99 (g : xm_G) (l1 : Option Nat) (l6 : Int32) (h : xm_H) (s : Option Nat) : Option (Option Nat) := xl_loop (D_J26_getNode_99 g l1 l6 h) s
noncomputable def B_J26_getNode_71 (g : xm_G) (l1 : Option Nat) (l3 : Option Nat) (l6 : Int32) (h : xm_H) : Option (Option Nat) :=
 xo_b l3 (fun a9 =>
 xo_b (xh_fr [(19, 3), (20, 3)] h a9) (fun v10 =>
 (if v10 = none then
 some none else
 xo_b (xh_inst "java/util/HashMap$TreeNode" h l3) (fun v11 =>
 (if v11 = 0 then
 L_J26_getNode_99 g l1 l6 h v10 else
 xo_b (xh_castY "java/util/HashMap$TreeNode" h l3) (fun _ =>
 none))))))
noncomputable def F_J26_getNode (g : xm_G) (p0 : Nat) (p1 : Option Nat) (h : xm_H) : Option (Option Nat) :=
 xo_b (xh_fr [(17, 2), (18, 2)] h p0) (fun v1 =>
 (if v1 = none then
 some none else
 xo_b v1 (fun a2 =>
 xo_b (xh_len h a2) (fun v3 =>
 (if v3 ≤ 0 then
 some none else
 xo_b (F_J26_hash g p1 h) (fun v4 =>
 xo_b (xh_ar "java/util/HashMap$Node" h a2 ((v3 - 1) &&& v4)) (fun v5 =>
 (if v5 = none then
 some none else
 xo_b v5 (fun a6 =>
 xo_b (xh_fi [(19, 0), (20, 0)] h a6) (fun v7 =>
 (if v7 = v4 then
 xo_b (xh_fr [(19, 1), (20, 1)] h a6) (fun v8 =>
 (if v8 = p1 then
 some v5 else
 (if p1 = none then
 B_J26_getNode_71 g p1 v5 v4 h else
 xo_b p1 (fun a19 =>
 xo_b (xh_is 11 h a19) (fun _ =>
 xo_b (F_X13_equals g a19 v8 h) (fun v20 =>
 (if v20 = 0 then
 B_J26_getNode_71 g p1 v5 v4 h else
 some v5))))))) else
 B_J26_getNode_71 g p1 v5 v4 h)))))))))))
set_option maxHeartbeats 4000000 in
theorem K_J26_getNode {g : xm_G} (hG : xm_Gw g) (p0 : Nat) (p1 : Option Nat) (h : xm_H) {o : Option Nat} (e : F_J26_getNode g p0 p1 h = some o) {Q : xm_P} {X : xm_X} (hQ : Q (some (va_rf o)) h) : xm_Run g M_J26_getNode 3 [.ref p0, va_rf p1] h 0 0 Q X := by
  refine xm_Run.of2 (ls := [some (.ref p0), some (va_rf p1), none, none, none, none, none, none]) pn_java_util_HashMap (by cases p1 <;> exact Nat.le_of_ble_eq_true rfl) (by cases p1 <;> rfl) (fun Γ hΓ => ?_)
  obtain ⟨P0, hP0, hp⟩ : ∃ P : Option Nat → Prop, (∀ o, P o → Q (some (va_rf o)) h) ∧ P o := ⟨fun o => Q (some (va_rf o)) h, fun _ h => h, hQ⟩
  clear hQ
  show xm_W g Γ 0 [some (.ref p0), some (va_rf p1), none, none, none, none, none, none] [] h 0 0
  have hL_99 : ∀ (l1 : Option Nat) (l6 : Int32) (s : Option Nat) (o : Option Nat), L_J26_getNode_99 g l1 l6 h s = some o → P0 o → xm_W g Γ 99 [none, some (va_rf l1), none, none, some (va_rf s), none, some (.int l6), none] [] h 0 0 := by
    intro l1 l6
    refine xl_rule (WS := fun s : Option Nat => xm_W g Γ 99 [none, some (va_rf l1), none, none, some (va_rf s), none, some (.int l6), none] [] h 0 0) ?_
    intro s o e hp
    obtain ⟨P1, hP1, hp⟩ : ∃ P : (Option Nat) ⊕ (Option Nat) → Prop, (∀ o, P o → xl_P (fun s : Option Nat => xm_W g Γ 99 [none, some (va_rf l1), none, none, some (va_rf s), none, some (.int l6), none] [] h 0 0) P0 o) ∧ P o := ⟨_, fun _ h => h, hp⟩
    have hB_137 : ∀ (l4 : Option Nat) (o : (Option Nat) ⊕ (Option Nat)), B_J26_getNode_137 g l1 l4 l6 h = some o → P1 o → xm_W g Γ 137 [none, some (va_rf l1), none, none, some (va_rf l4), none, some (.int l6), none] [] h 0 0 := by
      intro l4 o e hp
      unfold B_J26_getNode_137 at e
      refine xw_aldo (x := l4) (show xm_Imp g Γ 137 (xi_ald 4 139) from xs_aload hΓ dJ26_getNode_137) rfl ?_
      obtain ⟨a15, ha15, e⟩ := xo_b_s e
      obtain ⟨v16, e1, e⟩ := xo_b_s e
      refine xw_gr2 (o := l4) (xm_or1 (show xm_Imp g Γ 139 (xi_or (xi_get 19 3 142) (xi_get 20 3 142)) from xs_or (xs_get hG hΓ (ci := 19) (kf := 3) rfl (Nat.le_of_ble_eq_true rfl) q2343 dJ26_getNode_139) (xs_get hG hΓ (ci := 20) (kf := 3) rfl (Nat.le_of_ble_eq_true rfl) q2343 dJ26_getNode_139))) (xm_or2 (show xm_Imp g Γ 139 (xi_or (xi_get 19 3 142) (xi_get 20 3 142)) from xs_or (xs_get hG hΓ (ci := 19) (kf := 3) rfl (Nat.le_of_ble_eq_true rfl) q2343 dJ26_getNode_139) (xs_get hG hΓ (ci := 20) (kf := 3) rfl (Nat.le_of_ble_eq_true rfl) q2343 dJ26_getNode_139))) ha15 e1 ?_
      refine xw_dup (show xm_Imp g Γ 142 (xi_dup 143) from xs_dup hΓ dJ26_getNode_142) (xm_c1_rf v16) ?_
      refine xw_asto (x := v16) (ls' := [none, some (va_rf l1), none, none, some (va_rf v16), none, some (.int l6), none]) (show xm_Imp g Γ 143 (xi_ast 4 145) from xs_astore hΓ dJ26_getNode_143 (Nat.le_of_ble_eq_true rfl)) rfl ?_
      refine xw_nul (o := v16) (show xm_Imp g Γ 145 (xi_nul 148 99) from xs_ifnonnull hΓ dJ26_getNode_145 (by decide)) (fun c => ?_) (fun c => ?_)
      · rw [if_pos c] at e
        obtain ⟨_, e, hp⟩ := xl_o_s e (hP1 _ hp)
        refine xw_psh (v := .null) (show xm_Imp g Γ 148 (xi_psh .null 149) from xs_null hΓ dJ26_getNode_148) ?_
        have hq := hP0 _ (xl_fin e hp)
        exact xw_areto (show xm_Imp g Γ 149 (xi_aret _) from xs_areturn hΓ rfl (Or.inl ⟨_, rfl⟩) dJ26_getNode_149) hq
      · rw [if_neg c] at e
        have hq := xl_P_inl (hP1 _ (xl_fin e hp)); exact hq
    unfold D_J26_getNode_99 at e
    refine xw_aldo (x := s) (show xm_Imp g Γ 99 (xi_ald 4 101) from xs_aload hΓ dJ26_getNode_99) rfl ?_
    obtain ⟨a12, ha12, e⟩ := xo_b_s e
    obtain ⟨v13, e1, e⟩ := xo_b_s e
    refine xw_gi2 (o := s) (xm_or1 (show xm_Imp g Γ 101 (xi_or (xi_get 19 0 104) (xi_get 20 0 104)) from xs_or (xs_get hG hΓ (ci := 19) (kf := 0) rfl (Nat.le_of_ble_eq_true rfl) q2327 dJ26_getNode_101) (xs_get hG hΓ (ci := 20) (kf := 0) rfl (Nat.le_of_ble_eq_true rfl) q2327 dJ26_getNode_101))) (xm_or2 (show xm_Imp g Γ 101 (xi_or (xi_get 19 0 104) (xi_get 20 0 104)) from xs_or (xs_get hG hΓ (ci := 19) (kf := 0) rfl (Nat.le_of_ble_eq_true rfl) q2327 dJ26_getNode_101) (xs_get hG hΓ (ci := 20) (kf := 0) rfl (Nat.le_of_ble_eq_true rfl) q2327 dJ26_getNode_101))) ha12 e1 ?_
    refine xw_ild (show xm_Imp g Γ 104 (xi_ild 6 106) from xs_iload hΓ dJ26_getNode_104) rfl ?_
    refine xw_ic (show xm_Imp g Γ 106 (xi_ic (fun x y => x = y) 109 137) from xs_icmp_ne hΓ dJ26_getNode_106 (by decide)) (fun c => ?_) (fun c => ?_)
    · rw [if_pos c] at e
      refine xw_aldo (x := s) (show xm_Imp g Γ 109 (xi_ald 4 111) from xs_aload hΓ dJ26_getNode_109) rfl ?_
      obtain ⟨v14, e1, e⟩ := xo_b_s e
      refine xw_gr2 (o := s) (xm_or1 (show xm_Imp g Γ 111 (xi_or (xi_get 19 1 114) (xi_get 20 1 114)) from xs_or (xs_get hG hΓ (ci := 19) (kf := 1) rfl (Nat.le_of_ble_eq_true rfl) q2333 dJ26_getNode_111) (xs_get hG hΓ (ci := 20) (kf := 1) rfl (Nat.le_of_ble_eq_true rfl) q2333 dJ26_getNode_111))) (xm_or2 (show xm_Imp g Γ 111 (xi_or (xi_get 19 1 114) (xi_get 20 1 114)) from xs_or (xs_get hG hΓ (ci := 19) (kf := 1) rfl (Nat.le_of_ble_eq_true rfl) q2333 dJ26_getNode_111) (xs_get hG hΓ (ci := 20) (kf := 1) rfl (Nat.le_of_ble_eq_true rfl) q2333 dJ26_getNode_111))) ha12 e1 ?_
      refine xw_dup (show xm_Imp g Γ 114 (xi_dup 115) from xs_dup hΓ dJ26_getNode_114) (xm_c1_rf v14) ?_
      refine xw_asto (x := v14) (ls' := [none, some (va_rf l1), none, none, some (va_rf s), none, some (.int l6), some (va_rf v14)]) (show xm_Imp g Γ 115 (xi_ast 7 117) from xs_astore hΓ dJ26_getNode_115 (Nat.le_of_ble_eq_true rfl)) rfl ?_
      refine xw_aldo (x := l1) (show xm_Imp g Γ 117 (xi_ald 1 118) from xs_aload_n hΓ dJ26_getNode_117) rfl ?_
      refine xw_acm (o := v14) (o2 := l1) (show xm_Imp g Γ 118 (xi_acm 134 121) from xs_acmp_eq hΓ dJ26_getNode_118 (by decide)) (fun c => ?_) (fun c => ?_)
      · rw [if_pos c] at e
        obtain ⟨_, e, hp⟩ := xl_o_s e (hP1 _ hp)
        refine xw_aldo (x := s) (show xm_Imp g Γ 134 (xi_ald 4 136) from xs_aload hΓ dJ26_getNode_134) rfl ?_
        have hq := hP0 _ (xl_fin e hp)
        exact xw_areto (show xm_Imp g Γ 136 (xi_aret _) from xs_areturn hΓ rfl (Or.inl ⟨_, rfl⟩) dJ26_getNode_136) hq
      · rw [if_neg c] at e
        refine xw_aldo (x := l1) (show xm_Imp g Γ 121 (xi_ald 1 122) from xs_aload_n hΓ dJ26_getNode_121) rfl ?_
        refine xw_nul (o := l1) (show xm_Imp g Γ 122 (xi_nul 137 125) from xs_ifnull hΓ dJ26_getNode_122 (by decide)) (fun c => ?_) (fun c => ?_)
        · rw [if_pos c] at e
          exact xm_lx (hB_137 _ _ e hp) (And.intro rfl (And.intro rfl (And.intro rfl (trivial))))
        · rw [if_neg c] at e
          refine xw_aldo (x := l1) (show xm_Imp g Γ 125 (xi_ald 1 126) from xs_aload_n hΓ dJ26_getNode_125) rfl ?_
          refine xw_aldo (x := v14) (show xm_Imp g Γ 126 (xi_ald 7 128) from xs_aload hΓ dJ26_getNode_126) rfl ?_
          obtain ⟨a17, ha17, e⟩ := xo_b_s e
          obtain ⟨_, e0, e⟩ := xo_b_s e
          obtain ⟨v18, e1, e⟩ := xo_b_s e
          refine xw_hv1 (o := l1) (show xm_Imp g Γ 128 (xi_vir g 11 M_X13_equals 1 1 131) from xs_invA hG hΓ (owner := "java/lang/Object") k_X13_equals rfl (ci := 11) rfl q2601 q2603 q2615 q2614 q2600 ⟨by decide, by decide⟩ (by decide +kernel) dJ26_getNode_128) (by simp [xm_stk, xv_cat, xc_int, xc_long, xc_float, xc_double, xc_ref]) ha17 e0 (fun Q X hQ => K_X13_equals hG a17 v14 _ e1 hQ) ?_
          refine xw_if (show xm_Imp g Γ 131 (xi_if (fun x => x = 0) 137 134) from xs_if_eq hΓ dJ26_getNode_131 (by decide)) (fun c => ?_) (fun c => ?_)
          · rw [if_pos c] at e
            exact xm_lx (hB_137 _ _ e hp) (And.intro rfl (And.intro rfl (And.intro rfl (trivial))))
          · rw [if_neg c] at e
            obtain ⟨_, e, hp⟩ := xl_o_s e (hP1 _ hp)
            refine xw_aldo (x := s) (show xm_Imp g Γ 134 (xi_ald 4 136) from xs_aload hΓ dJ26_getNode_134) rfl ?_
            have hq := hP0 _ (xl_fin e hp)
            exact xw_areto (show xm_Imp g Γ 136 (xi_aret _) from xs_areturn hΓ rfl (Or.inl ⟨_, rfl⟩) dJ26_getNode_136) hq
    · rw [if_neg c] at e
      exact hB_137 _ _ e hp
  have hB_71 : ∀ (l1 : Option Nat) (l3 : Option Nat) (l6 : Int32) (o : Option Nat), B_J26_getNode_71 g l1 l3 l6 h = some o → P0 o → xm_W g Γ 71 [none, some (va_rf l1), none, some (va_rf l3), none, none, some (.int l6), none] [] h 0 0 := by
    intro l1 l3 l6 o e hp
    unfold B_J26_getNode_71 at e
    refine xw_aldo (x := l3) (show xm_Imp g Γ 71 (xi_ald 3 72) from xs_aload_n hΓ dJ26_getNode_71) rfl ?_
    obtain ⟨a9, ha9, e⟩ := xo_b_s e
    obtain ⟨v10, e1, e⟩ := xo_b_s e
    refine xw_gr2 (o := l3) (xm_or1 (show xm_Imp g Γ 72 (xi_or (xi_get 19 3 75) (xi_get 20 3 75)) from xs_or (xs_get hG hΓ (ci := 19) (kf := 3) rfl (Nat.le_of_ble_eq_true rfl) q2343 dJ26_getNode_72) (xs_get hG hΓ (ci := 20) (kf := 3) rfl (Nat.le_of_ble_eq_true rfl) q2343 dJ26_getNode_72))) (xm_or2 (show xm_Imp g Γ 72 (xi_or (xi_get 19 3 75) (xi_get 20 3 75)) from xs_or (xs_get hG hΓ (ci := 19) (kf := 3) rfl (Nat.le_of_ble_eq_true rfl) q2343 dJ26_getNode_72) (xs_get hG hΓ (ci := 20) (kf := 3) rfl (Nat.le_of_ble_eq_true rfl) q2343 dJ26_getNode_72))) ha9 e1 ?_
    refine xw_dup (show xm_Imp g Γ 75 (xi_dup 76) from xs_dup hΓ dJ26_getNode_75) (xm_c1_rf v10) ?_
    refine xw_asto (x := v10) (ls' := [none, some (va_rf l1), none, some (va_rf l3), some (va_rf v10), none, some (.int l6), none]) (show xm_Imp g Γ 76 (xi_ast 4 78) from xs_astore hΓ dJ26_getNode_76 (Nat.le_of_ble_eq_true rfl)) ((xm_s1_o (o := l3) rfl).trans rfl) ?_
    refine xw_nul (o := v10) (show xm_Imp g Γ 78 (xi_nul 148 81) from xs_ifnull hΓ dJ26_getNode_78 (by decide)) (fun c => ?_) (fun c => ?_)
    · rw [if_pos c] at e
      refine xw_psh (v := .null) (show xm_Imp g Γ 148 (xi_psh .null 149) from xs_null hΓ dJ26_getNode_148) ?_
      have hq := hP0 _ (xl_fin e hp)
      exact xw_areto (show xm_Imp g Γ 149 (xi_aret _) from xs_areturn hΓ rfl (Or.inl ⟨_, rfl⟩) dJ26_getNode_149) hq
    · rw [if_neg c] at e
      refine xw_aldo (x := l3) (show xm_Imp g Γ 81 (xi_ald 3 82) from xs_aload_n hΓ dJ26_getNode_81) rfl ?_
      obtain ⟨v11, e1, e⟩ := xo_b_s e
      refine xw_inst (o := l3) (show xm_Imp g Γ 82 (xi_inst "java/util/HashMap$TreeNode" 85) from xs_inst hG hΓ q2294 dJ26_getNode_82) e1 ?_
      refine xw_if (show xm_Imp g Γ 85 (xi_if (fun x => x = 0) 99 88) from xs_if_eq hΓ dJ26_getNode_85 (by decide)) (fun c => ?_) (fun c => ?_)
      · rw [if_pos c] at e
        exact xm_lx (hL_99 _ _ _ _ e hp) (And.intro rfl (And.intro rfl (And.intro rfl (trivial))))
      · rw [if_neg c] at e
        refine xw_aldo (x := l3) (show xm_Imp g Γ 88 (xi_ald 3 89) from xs_aload_n hΓ dJ26_getNode_88) rfl ?_
        obtain ⟨_, e1, e⟩ := xo_b_s e
        refine xw_castY (o := l3) (show xm_Imp g Γ 89 (xi_castY "java/util/HashMap$TreeNode" 92) from xs_castY hG hΓ q2294 dJ26_getNode_89) e1 ?_
        refine xw_ild (show xm_Imp g Γ 92 (xi_ild 6 94) from xs_iload hΓ dJ26_getNode_92) rfl ?_
        refine xw_aldo (x := l1) (show xm_Imp g Γ 94 (xi_ald 1 95) from xs_aload_n hΓ dJ26_getNode_94) rfl ?_
        cases e
  unfold F_J26_getNode at e
  refine xw_ald (show xm_Imp g Γ 0 (xi_ald 0 1) from xs_aload_n hΓ dJ26_getNode_0) rfl ?_
  obtain ⟨v1, e1, e⟩ := xo_b_s e
  refine xw_gr2 (o := (some p0)) (xm_or1 (show xm_Imp g Γ 1 (xi_or (xi_get 17 2 4) (xi_get 18 2 4)) from xs_or (xs_get hG hΓ (ci := 17) (kf := 2) rfl (Nat.le_of_ble_eq_true rfl) q2174 dJ26_getNode_1) (xs_get hG hΓ (ci := 18) (kf := 2) rfl (Nat.le_of_ble_eq_true rfl) q2174 dJ26_getNode_1))) (xm_or2 (show xm_Imp g Γ 1 (xi_or (xi_get 17 2 4) (xi_get 18 2 4)) from xs_or (xs_get hG hΓ (ci := 17) (kf := 2) rfl (Nat.le_of_ble_eq_true rfl) q2174 dJ26_getNode_1) (xs_get hG hΓ (ci := 18) (kf := 2) rfl (Nat.le_of_ble_eq_true rfl) q2174 dJ26_getNode_1))) rfl e1 ?_
  refine xw_dup (show xm_Imp g Γ 4 (xi_dup 5) from xs_dup hΓ dJ26_getNode_4) (xm_c1_rf v1) ?_
  refine xw_asto (x := v1) (ls' := [some (.ref p0), some (va_rf p1), some (va_rf v1), none, none, none, none, none]) (show xm_Imp g Γ 5 (xi_ast 2 6) from xs_astore_n hΓ dJ26_getNode_5 (Nat.le_of_ble_eq_true rfl)) ((xm_s1_o (o := p1) rfl).trans rfl) ?_
  refine xw_nul (o := v1) (show xm_Imp g Γ 6 (xi_nul 148 9) from xs_ifnull hΓ dJ26_getNode_6 (by decide)) (fun c => ?_) (fun c => ?_)
  · rw [if_pos c] at e
    refine xw_psh (v := .null) (show xm_Imp g Γ 148 (xi_psh .null 149) from xs_null hΓ dJ26_getNode_148) ?_
    have hq := hP0 _ (xl_fin e hp)
    exact xw_areto (show xm_Imp g Γ 149 (xi_aret _) from xs_areturn hΓ rfl (Or.inl ⟨_, rfl⟩) dJ26_getNode_149) hq
  · rw [if_neg c] at e
    refine xw_aldo (x := v1) (show xm_Imp g Γ 9 (xi_ald 2 10) from xs_aload_n hΓ dJ26_getNode_9) rfl ?_
    obtain ⟨a2, ha2, e⟩ := xo_b_s e
    obtain ⟨v3, e1, e⟩ := xo_b_s e
    refine xw_hlen (o := v1) (show xm_Imp g Γ 10 (xi_len 11) from xs_len hG hΓ dJ26_getNode_10) ha2 e1 ?_
    refine xw_dup (show xm_Imp g Γ 11 (xi_dup 12) from xs_dup hΓ dJ26_getNode_11) rfl ?_
    refine xw_ist (ls' := [some (.ref p0), some (va_rf p1), some (va_rf v1), none, none, some (.int v3), none, none]) (show xm_Imp g Γ 12 (xi_ist 5 14) from xs_istore hΓ dJ26_getNode_12 (Nat.le_of_ble_eq_true rfl)) rfl ?_
    refine xw_if (show xm_Imp g Γ 14 (xi_if (fun x => x ≤ 0) 148 17) from xs_if_le hΓ dJ26_getNode_14 (by decide)) (fun c => ?_) (fun c => ?_)
    · rw [if_pos c] at e
      refine xw_psh (v := .null) (show xm_Imp g Γ 148 (xi_psh .null 149) from xs_null hΓ dJ26_getNode_148) ?_
      have hq := hP0 _ (xl_fin e hp)
      exact xw_areto (show xm_Imp g Γ 149 (xi_aret _) from xs_areturn hΓ rfl (Or.inl ⟨_, rfl⟩) dJ26_getNode_149) hq
    · rw [if_neg c] at e
      refine xw_aldo (x := v1) (show xm_Imp g Γ 17 (xi_ald 2 18) from xs_aload_n hΓ dJ26_getNode_17) rfl ?_
      refine xw_ild (show xm_Imp g Γ 18 (xi_ild 5 20) from xs_iload hΓ dJ26_getNode_18) rfl ?_
      refine xw_psh (v := (.int (1))) (show xm_Imp g Γ 20 (xi_psh (.int (1)) 21) from xs_iconst hΓ dJ26_getNode_20 (by decide)) ?_
      refine xw_ii (show xm_Imp g Γ 21 (xi_ii (fun x y => x - y) 22) from xs_isub hΓ dJ26_getNode_21) ?_
      refine xw_aldo (x := p1) (show xm_Imp g Γ 22 (xi_ald 1 23) from xs_aload_n hΓ dJ26_getNode_22) rfl ?_
      obtain ⟨v4, e1, e⟩ := xo_b_s e
      refine xw_sv1 (show xm_Imp g Γ 23 (xi_inv g M_J26_hash 2 1 26) from xs_invS hG hΓ k_J26_hash rfl q2240 q2241 dJ26_getNode_23) (by simp [xm_stk, xv_cat, xc_int, xc_long, xc_float, xc_double, xc_ref]) (fun Q X hQ => K_J26_hash hG p1 _ e1 hQ) ?_
      refine xw_dup (show xm_Imp g Γ 26 (xi_dup 27) from xs_dup hΓ dJ26_getNode_26) rfl ?_
      refine xw_ist (ls' := [some (.ref p0), some (va_rf p1), some (va_rf v1), none, none, some (.int v3), some (.int v4), none]) (show xm_Imp g Γ 27 (xi_ist 6 29) from xs_istore hΓ dJ26_getNode_27 (Nat.le_of_ble_eq_true rfl)) rfl ?_
      refine xw_ii (show xm_Imp g Γ 29 (xi_ii (fun x y => x &&& y) 30) from xs_iand hΓ dJ26_getNode_29) ?_
      obtain ⟨v5, e1, e⟩ := xo_b_s e
      refine xw_haal (o := v1) (show xm_Imp g Γ 30 (xi_aal "java/util/HashMap$Node" 31) from xs_aal hG hΓ dJ26_getNode_30) ha2 e1 ?_
      refine xw_dup (show xm_Imp g Γ 31 (xi_dup 32) from xs_dup hΓ dJ26_getNode_31) (xm_c1_rf v5) ?_
      refine xw_asto (x := v5) (ls' := [some (.ref p0), some (va_rf p1), some (va_rf v1), some (va_rf v5), none, some (.int v3), some (.int v4), none]) (show xm_Imp g Γ 32 (xi_ast 3 33) from xs_astore_n hΓ dJ26_getNode_32 (Nat.le_of_ble_eq_true rfl)) ((xm_s1_o (o := v1) rfl).trans rfl) ?_
      refine xw_nul (o := v5) (show xm_Imp g Γ 33 (xi_nul 148 36) from xs_ifnull hΓ dJ26_getNode_33 (by decide)) (fun c => ?_) (fun c => ?_)
      · rw [if_pos c] at e
        refine xw_psh (v := .null) (show xm_Imp g Γ 148 (xi_psh .null 149) from xs_null hΓ dJ26_getNode_148) ?_
        have hq := hP0 _ (xl_fin e hp)
        exact xw_areto (show xm_Imp g Γ 149 (xi_aret _) from xs_areturn hΓ rfl (Or.inl ⟨_, rfl⟩) dJ26_getNode_149) hq
      · rw [if_neg c] at e
        refine xw_aldo (x := v5) (show xm_Imp g Γ 36 (xi_ald 3 37) from xs_aload_n hΓ dJ26_getNode_36) rfl ?_
        obtain ⟨a6, ha6, e⟩ := xo_b_s e
        obtain ⟨v7, e1, e⟩ := xo_b_s e
        refine xw_gi2 (o := v5) (xm_or1 (show xm_Imp g Γ 37 (xi_or (xi_get 19 0 40) (xi_get 20 0 40)) from xs_or (xs_get hG hΓ (ci := 19) (kf := 0) rfl (Nat.le_of_ble_eq_true rfl) q2327 dJ26_getNode_37) (xs_get hG hΓ (ci := 20) (kf := 0) rfl (Nat.le_of_ble_eq_true rfl) q2327 dJ26_getNode_37))) (xm_or2 (show xm_Imp g Γ 37 (xi_or (xi_get 19 0 40) (xi_get 20 0 40)) from xs_or (xs_get hG hΓ (ci := 19) (kf := 0) rfl (Nat.le_of_ble_eq_true rfl) q2327 dJ26_getNode_37) (xs_get hG hΓ (ci := 20) (kf := 0) rfl (Nat.le_of_ble_eq_true rfl) q2327 dJ26_getNode_37))) ha6 e1 ?_
        refine xw_ild (show xm_Imp g Γ 40 (xi_ild 6 42) from xs_iload hΓ dJ26_getNode_40) rfl ?_
        refine xw_ic (show xm_Imp g Γ 42 (xi_ic (fun x y => x = y) 45 71) from xs_icmp_ne hΓ dJ26_getNode_42 (by decide)) (fun c => ?_) (fun c => ?_)
        · rw [if_pos c] at e
          refine xw_aldo (x := v5) (show xm_Imp g Γ 45 (xi_ald 3 46) from xs_aload_n hΓ dJ26_getNode_45) rfl ?_
          obtain ⟨v8, e1, e⟩ := xo_b_s e
          refine xw_gr2 (o := v5) (xm_or1 (show xm_Imp g Γ 46 (xi_or (xi_get 19 1 49) (xi_get 20 1 49)) from xs_or (xs_get hG hΓ (ci := 19) (kf := 1) rfl (Nat.le_of_ble_eq_true rfl) q2333 dJ26_getNode_46) (xs_get hG hΓ (ci := 20) (kf := 1) rfl (Nat.le_of_ble_eq_true rfl) q2333 dJ26_getNode_46))) (xm_or2 (show xm_Imp g Γ 46 (xi_or (xi_get 19 1 49) (xi_get 20 1 49)) from xs_or (xs_get hG hΓ (ci := 19) (kf := 1) rfl (Nat.le_of_ble_eq_true rfl) q2333 dJ26_getNode_46) (xs_get hG hΓ (ci := 20) (kf := 1) rfl (Nat.le_of_ble_eq_true rfl) q2333 dJ26_getNode_46))) ha6 e1 ?_
          refine xw_dup (show xm_Imp g Γ 49 (xi_dup 50) from xs_dup hΓ dJ26_getNode_49) (xm_c1_rf v8) ?_
          refine xw_asto (x := v8) (ls' := [some (.ref p0), some (va_rf p1), some (va_rf v1), some (va_rf v5), none, some (.int v3), some (.int v4), some (va_rf v8)]) (show xm_Imp g Γ 50 (xi_ast 7 52) from xs_astore hΓ dJ26_getNode_50 (Nat.le_of_ble_eq_true rfl)) rfl ?_
          refine xw_aldo (x := p1) (show xm_Imp g Γ 52 (xi_ald 1 53) from xs_aload_n hΓ dJ26_getNode_52) rfl ?_
          refine xw_acm (o := v8) (o2 := p1) (show xm_Imp g Γ 53 (xi_acm 69 56) from xs_acmp_eq hΓ dJ26_getNode_53 (by decide)) (fun c => ?_) (fun c => ?_)
          · rw [if_pos c] at e
            refine xw_aldo (x := v5) (show xm_Imp g Γ 69 (xi_ald 3 70) from xs_aload_n hΓ dJ26_getNode_69) rfl ?_
            have hq := hP0 _ (xl_fin e hp)
            exact xw_areto (show xm_Imp g Γ 70 (xi_aret _) from xs_areturn hΓ rfl (Or.inl ⟨_, rfl⟩) dJ26_getNode_70) hq
          · rw [if_neg c] at e
            refine xw_aldo (x := p1) (show xm_Imp g Γ 56 (xi_ald 1 57) from xs_aload_n hΓ dJ26_getNode_56) rfl ?_
            refine xw_nul (o := p1) (show xm_Imp g Γ 57 (xi_nul 71 60) from xs_ifnull hΓ dJ26_getNode_57 (by decide)) (fun c => ?_) (fun c => ?_)
            · rw [if_pos c] at e
              exact xm_lx (hB_71 _ _ _ _ e hp) (And.intro rfl (And.intro rfl (And.intro rfl (trivial))))
            · rw [if_neg c] at e
              refine xw_aldo (x := p1) (show xm_Imp g Γ 60 (xi_ald 1 61) from xs_aload_n hΓ dJ26_getNode_60) rfl ?_
              refine xw_aldo (x := v8) (show xm_Imp g Γ 61 (xi_ald 7 63) from xs_aload hΓ dJ26_getNode_61) rfl ?_
              obtain ⟨a19, ha19, e⟩ := xo_b_s e
              obtain ⟨_, e0, e⟩ := xo_b_s e
              obtain ⟨v20, e1, e⟩ := xo_b_s e
              refine xw_hv1 (o := p1) (show xm_Imp g Γ 63 (xi_vir g 11 M_X13_equals 1 1 66) from xs_invA hG hΓ (owner := "java/lang/Object") k_X13_equals rfl (ci := 11) rfl q2601 q2603 q2615 q2614 q2600 ⟨by decide, by decide⟩ (by decide +kernel) dJ26_getNode_63) (by simp [xm_stk, xv_cat, xc_int, xc_long, xc_float, xc_double, xc_ref]) ha19 e0 (fun Q X hQ => K_X13_equals hG a19 v8 _ e1 hQ) ?_
              refine xw_if (show xm_Imp g Γ 66 (xi_if (fun x => x = 0) 71 69) from xs_if_eq hΓ dJ26_getNode_66 (by decide)) (fun c => ?_) (fun c => ?_)
              · rw [if_pos c] at e
                exact xm_lx (hB_71 _ _ _ _ e hp) (And.intro rfl (And.intro rfl (And.intro rfl (trivial))))
              · rw [if_neg c] at e
                refine xw_aldo (x := v5) (show xm_Imp g Γ 69 (xi_ald 3 70) from xs_aload_n hΓ dJ26_getNode_69) rfl ?_
                have hq := hP0 _ (xl_fin e hp)
                exact xw_areto (show xm_Imp g Γ 70 (xi_aret _) from xs_areturn hΓ rfl (Or.inl ⟨_, rfl⟩) dJ26_getNode_70) hq
        · rw [if_neg c] at e
          exact xm_lx (hB_71 _ _ _ _ e hp) (And.intro rfl (And.intro rfl (And.intro rfl (trivial))))
noncomputable def F_J26_get (g : xm_G) (p0 : Nat) (p1 : Option Nat) (h : xm_H) : Option (Option Nat) :=
 xo_b (xh_ci h p0) (fun c1 =>
 (if c1 = 17 then
 xo_b (F_J26_getNode g p0 p1 h) (fun v2 =>
 (if v2 = none then
 some none else
 xo_b v2 (fun a3 =>
 xo_b (xh_fr [(19, 2), (20, 2)] h a3) (fun v4 =>
 some v4)))) else
 (if c1 = 18 then
 xo_b (F_J26_getNode g p0 p1 h) (fun v5 =>
 (if v5 = none then
 some none else
 xo_b v5 (fun a6 =>
 xo_b (xh_fr [(19, 2), (20, 2)] h a6) (fun v7 =>
 some v7)))) else
 none)))
set_option maxHeartbeats 4000000 in
theorem K_J26_get {g : xm_G} (hG : xm_Gw g) (p0 : Nat) (p1 : Option Nat) (h : xm_H) {o : Option Nat} (e : F_J26_get g p0 p1 h = some o) {Q : xm_P} {X : xm_X} (hQ : Q (some (va_rf o)) h) : xm_Run g M_J26_get 4 [.ref p0, va_rf p1] h 0 0 Q X := by
  refine xm_Run.of2 (ls := [some (.ref p0), some (va_rf p1), none]) pn_java_util_HashMap (by cases p1 <;> exact Nat.le_of_ble_eq_true rfl) (by cases p1 <;> rfl) (fun Γ hΓ => ?_)
  obtain ⟨P0, hP0, hp⟩ : ∃ P : Option Nat → Prop, (∀ o, P o → Q (some (va_rf o)) h) ∧ P o := ⟨fun o => Q (some (va_rf o)) h, fun _ h => h, hQ⟩
  clear hQ
  show xm_W g Γ 0 [some (.ref p0), some (va_rf p1), none] [] h 0 0
  unfold F_J26_get at e
  refine xw_ald (show xm_Imp g Γ 0 (xi_ald 0 1) from xs_aload_n hΓ dJ26_get_0) rfl ?_
  refine xw_aldo (x := p1) (show xm_Imp g Γ 1 (xi_ald 1 2) from xs_aload_n hΓ dJ26_get_1) rfl ?_
  obtain ⟨c1, e0, e⟩ := xo_b_s e
  by_cases cc0 : c1 = 17
  · rw [if_pos cc0] at e
    obtain ⟨v2, e1, e⟩ := xo_b_s e
    refine xw_hv1 (o := (some p0)) (xm_or1 (show xm_Imp g Γ 2 (xi_or (xi_vir g 17 M_J26_getNode 3 1 5) (xi_vir g 18 M_J26_getNode 3 1 5)) from xs_or (xs_invV hG hΓ k_J26_getNode rfl (ci := 17) rfl q2735 q2736 q2737 dJ26_get_2) (xs_invU hG hΓ (owner := "java/util/HashMap") k_J26_getNode rfl (ci := 18) rfl q2735 q2738 q2736 q2739 rfl ⟨by decide, by decide⟩ (by decide +kernel) dJ26_get_2))) rfl rfl (xh_is_of e0 cc0) (fun Q X hQ => K_J26_getNode hG p0 p1 _ e1 hQ) ?_
    refine xw_dup (show xm_Imp g Γ 5 (xi_dup 6) from xs_dup hΓ dJ26_get_5) (xm_c1_rf v2) ?_
    refine xw_asto (x := v2) (ls' := [some (.ref p0), some (va_rf p1), some (va_rf v2)]) (show xm_Imp g Γ 6 (xi_ast 2 7) from xs_astore_n hΓ dJ26_get_6 (Nat.le_of_ble_eq_true rfl)) ((xm_s1_o (o := p1) rfl).trans rfl) ?_
    refine xw_nul (o := v2) (show xm_Imp g Γ 7 (xi_nul 10 14) from xs_ifnonnull hΓ dJ26_get_7 (by decide)) (fun c => ?_) (fun c => ?_)
    · rw [if_pos c] at e
      refine xw_psh (v := .null) (show xm_Imp g Γ 10 (xi_psh .null 11) from xs_null hΓ dJ26_get_10) ?_
      refine xw_goto (show xm_Imp g Γ 11 (xi_goto 18) from xs_goto hΓ dJ26_get_11 (by decide)) ?_
      have hq := hP0 _ (xl_fin e hp)
      exact xw_areto (show xm_Imp g Γ 18 (xi_aret _) from xs_areturn hΓ rfl (Or.inl ⟨_, rfl⟩) dJ26_get_18) hq
    · rw [if_neg c] at e
      refine xw_aldo (x := v2) (show xm_Imp g Γ 14 (xi_ald 2 15) from xs_aload_n hΓ dJ26_get_14) rfl ?_
      obtain ⟨a3, ha3, e⟩ := xo_b_s e
      obtain ⟨v4, e1, e⟩ := xo_b_s e
      refine xw_gr2 (o := v2) (xm_or1 (show xm_Imp g Γ 15 (xi_or (xi_get 19 2 18) (xi_get 20 2 18)) from xs_or (xs_get hG hΓ (ci := 19) (kf := 2) rfl (Nat.le_of_ble_eq_true rfl) q2337 dJ26_get_15) (xs_get hG hΓ (ci := 20) (kf := 2) rfl (Nat.le_of_ble_eq_true rfl) q2337 dJ26_get_15))) (xm_or2 (show xm_Imp g Γ 15 (xi_or (xi_get 19 2 18) (xi_get 20 2 18)) from xs_or (xs_get hG hΓ (ci := 19) (kf := 2) rfl (Nat.le_of_ble_eq_true rfl) q2337 dJ26_get_15) (xs_get hG hΓ (ci := 20) (kf := 2) rfl (Nat.le_of_ble_eq_true rfl) q2337 dJ26_get_15))) ha3 e1 ?_
      have hq := hP0 _ (xl_fin e hp)
      exact xw_areto (show xm_Imp g Γ 18 (xi_aret _) from xs_areturn hΓ rfl (Or.inl ⟨_, rfl⟩) dJ26_get_18) hq
  rw [if_neg cc0] at e
  by_cases cc1 : c1 = 18
  · rw [if_pos cc1] at e
    obtain ⟨v5, e1, e⟩ := xo_b_s e
    refine xw_hv1 (o := (some p0)) (xm_or2 (show xm_Imp g Γ 2 (xi_or (xi_vir g 17 M_J26_getNode 3 1 5) (xi_vir g 18 M_J26_getNode 3 1 5)) from xs_or (xs_invV hG hΓ k_J26_getNode rfl (ci := 17) rfl q2735 q2736 q2737 dJ26_get_2) (xs_invU hG hΓ (owner := "java/util/HashMap") k_J26_getNode rfl (ci := 18) rfl q2735 q2738 q2736 q2739 rfl ⟨by decide, by decide⟩ (by decide +kernel) dJ26_get_2))) rfl rfl (xh_is_of e0 cc1) (fun Q X hQ => K_J26_getNode hG p0 p1 _ e1 hQ) ?_
    refine xw_dup (show xm_Imp g Γ 5 (xi_dup 6) from xs_dup hΓ dJ26_get_5) (xm_c1_rf v5) ?_
    refine xw_asto (x := v5) (ls' := [some (.ref p0), some (va_rf p1), some (va_rf v5)]) (show xm_Imp g Γ 6 (xi_ast 2 7) from xs_astore_n hΓ dJ26_get_6 (Nat.le_of_ble_eq_true rfl)) ((xm_s1_o (o := p1) rfl).trans rfl) ?_
    refine xw_nul (o := v5) (show xm_Imp g Γ 7 (xi_nul 10 14) from xs_ifnonnull hΓ dJ26_get_7 (by decide)) (fun c => ?_) (fun c => ?_)
    · rw [if_pos c] at e
      refine xw_psh (v := .null) (show xm_Imp g Γ 10 (xi_psh .null 11) from xs_null hΓ dJ26_get_10) ?_
      refine xw_goto (show xm_Imp g Γ 11 (xi_goto 18) from xs_goto hΓ dJ26_get_11 (by decide)) ?_
      have hq := hP0 _ (xl_fin e hp)
      exact xw_areto (show xm_Imp g Γ 18 (xi_aret _) from xs_areturn hΓ rfl (Or.inl ⟨_, rfl⟩) dJ26_get_18) hq
    · rw [if_neg c] at e
      refine xw_aldo (x := v5) (show xm_Imp g Γ 14 (xi_ald 2 15) from xs_aload_n hΓ dJ26_get_14) rfl ?_
      obtain ⟨a6, ha6, e⟩ := xo_b_s e
      obtain ⟨v7, e1, e⟩ := xo_b_s e
      refine xw_gr2 (o := v5) (xm_or1 (show xm_Imp g Γ 15 (xi_or (xi_get 19 2 18) (xi_get 20 2 18)) from xs_or (xs_get hG hΓ (ci := 19) (kf := 2) rfl (Nat.le_of_ble_eq_true rfl) q2337 dJ26_get_15) (xs_get hG hΓ (ci := 20) (kf := 2) rfl (Nat.le_of_ble_eq_true rfl) q2337 dJ26_get_15))) (xm_or2 (show xm_Imp g Γ 15 (xi_or (xi_get 19 2 18) (xi_get 20 2 18)) from xs_or (xs_get hG hΓ (ci := 19) (kf := 2) rfl (Nat.le_of_ble_eq_true rfl) q2337 dJ26_get_15) (xs_get hG hΓ (ci := 20) (kf := 2) rfl (Nat.le_of_ble_eq_true rfl) q2337 dJ26_get_15))) ha6 e1 ?_
      have hq := hP0 _ (xl_fin e hp)
      exact xw_areto (show xm_Imp g Γ 18 (xi_aret _) from xs_areturn hΓ rfl (Or.inl ⟨_, rfl⟩) dJ26_get_18) hq
  rw [if_neg cc1] at e
  cases e
noncomputable def B_J27_get_24 (g : xm_G) (l2 : Option Nat) (h : xm_H) : Option (Option Nat × xm_H) :=
 xo_b l2 (fun a3 =>
 xo_b (xh_fr [(19, 2), (20, 2)] h a3) (fun v4 =>
 some (v4, h)))
noncomputable def F_J27_get (g : xm_G) (p0 : Nat) (p1 : Option Nat) (h : xm_H) : Option (Option Nat × xm_H) :=
 xo_b (xh_is 18 h p0) (fun _ =>
 xo_b (F_J26_getNode g p0 p1 h) (fun v1 =>
 (if v1 = none then
 some (none, h) else
 xo_b (xh_fi [(18, 10)] h p0) (fun v2 =>
 (if v2 = 0 then
 B_J27_get_24 g v1 h else
 xo_b (xh_is 18 h p0) (fun _ =>
 xo_b (F_J27_afterNodeAccess g p0 v1 h) (fun v5 =>
 B_J27_get_24 g v1 v5)))))))
set_option maxHeartbeats 4000000 in
theorem K_J27_get {g : xm_G} (hG : xm_Gw g) (p0 : Nat) (p1 : Option Nat) (h : xm_H) {o : Option Nat × xm_H} (e : F_J27_get g p0 p1 h = some o) {Q : xm_P} {X : xm_X} (hQ : Q (some (va_rf o.1)) o.2) : xm_Run g M_J27_get 4 [.ref p0, va_rf p1] h 0 0 Q X := by
  refine xm_Run.of2 (ls := [some (.ref p0), some (va_rf p1), none]) pn_java_util_LinkedHashMap (by cases p1 <;> exact Nat.le_of_ble_eq_true rfl) (by cases p1 <;> rfl) (fun Γ hΓ => ?_)
  obtain ⟨P0, hP0, hp⟩ : ∃ P : Option Nat × xm_H → Prop, (∀ o, P o → Q (some (va_rf o.1)) o.2) ∧ P o := ⟨fun o => Q (some (va_rf o.1)) o.2, fun _ h => h, hQ⟩
  clear hQ
  show xm_W g Γ 0 [some (.ref p0), some (va_rf p1), none] [] h 0 0
  have hB_24 : ∀ (l2 : Option Nat) (h : xm_H) (o : Option Nat × xm_H), B_J27_get_24 g l2 h = some o → P0 o → xm_W g Γ 24 [none, none, some (va_rf l2)] [] h 0 0 := by
    intro l2 h o e hp
    unfold B_J27_get_24 at e
    refine xw_aldo (x := l2) (show xm_Imp g Γ 24 (xi_ald 2 25) from xs_aload_n hΓ dJ27_get_24) rfl ?_
    obtain ⟨a3, ha3, e⟩ := xo_b_s e
    obtain ⟨v4, e1, e⟩ := xo_b_s e
    refine xw_gr2 (o := l2) (xm_or1 (show xm_Imp g Γ 25 (xi_or (xi_get 19 2 28) (xi_get 20 2 28)) from xs_or (xs_get hG hΓ (ci := 19) (kf := 2) rfl (Nat.le_of_ble_eq_true rfl) q2338 dJ27_get_25) (xs_get hG hΓ (ci := 20) (kf := 2) rfl (Nat.le_of_ble_eq_true rfl) q2338 dJ27_get_25))) (xm_or2 (show xm_Imp g Γ 25 (xi_or (xi_get 19 2 28) (xi_get 20 2 28)) from xs_or (xs_get hG hΓ (ci := 19) (kf := 2) rfl (Nat.le_of_ble_eq_true rfl) q2338 dJ27_get_25) (xs_get hG hΓ (ci := 20) (kf := 2) rfl (Nat.le_of_ble_eq_true rfl) q2338 dJ27_get_25))) ha3 e1 ?_
    have hq := hP0 _ (xl_fin e hp)
    exact xw_areto (show xm_Imp g Γ 28 (xi_aret _) from xs_areturn hΓ rfl (Or.inl ⟨_, rfl⟩) dJ27_get_28) hq
  unfold F_J27_get at e
  refine xw_ald (show xm_Imp g Γ 0 (xi_ald 0 1) from xs_aload_n hΓ dJ27_get_0) rfl ?_
  refine xw_aldo (x := p1) (show xm_Imp g Γ 1 (xi_ald 1 2) from xs_aload_n hΓ dJ27_get_1) rfl ?_
  obtain ⟨_, e0, e⟩ := xo_b_s e
  obtain ⟨v1, e1, e⟩ := xo_b_s e
  refine xw_hv1 (o := (some p0)) (show xm_Imp g Γ 2 (xi_vir g 18 M_J26_getNode 3 1 5) from xs_invU hG hΓ (owner := "java/util/HashMap") k_J26_getNode rfl (ci := 18) rfl q2750 q2751 q2736 q2753 rfl ⟨by decide, by decide⟩ (by decide +kernel) dJ27_get_2) rfl rfl e0 (fun Q X hQ => K_J26_getNode hG p0 p1 _ e1 hQ) ?_
  refine xw_dup (show xm_Imp g Γ 5 (xi_dup 6) from xs_dup hΓ dJ27_get_5) (xm_c1_rf v1) ?_
  refine xw_asto (x := v1) (ls' := [some (.ref p0), some (va_rf p1), some (va_rf v1)]) (show xm_Imp g Γ 6 (xi_ast 2 7) from xs_astore_n hΓ dJ27_get_6 (Nat.le_of_ble_eq_true rfl)) ((xm_s1_o (o := p1) rfl).trans rfl) ?_
  refine xw_nul (o := v1) (show xm_Imp g Γ 7 (xi_nul 10 12) from xs_ifnonnull hΓ dJ27_get_7 (by decide)) (fun c => ?_) (fun c => ?_)
  · rw [if_pos c] at e
    refine xw_psh (v := .null) (show xm_Imp g Γ 10 (xi_psh .null 11) from xs_null hΓ dJ27_get_10) ?_
    have hq := hP0 _ (xl_fin e hp)
    exact xw_areto (show xm_Imp g Γ 11 (xi_aret _) from xs_areturn hΓ rfl (Or.inl ⟨_, rfl⟩) dJ27_get_11) hq
  · rw [if_neg c] at e
    refine xw_ald (show xm_Imp g Γ 12 (xi_ald 0 13) from xs_aload_n hΓ dJ27_get_12) rfl ?_
    obtain ⟨v2, e1, e⟩ := xo_b_s e
    refine xw_gi1 (o := (some p0)) (show xm_Imp g Γ 13 (xi_get 18 10 16) from xs_get hG hΓ (ci := 18) (kf := 10) rfl (Nat.le_of_ble_eq_true rfl) q2172 dJ27_get_13) rfl e1 ?_
    refine xw_if (show xm_Imp g Γ 16 (xi_if (fun x => x = 0) 24 19) from xs_if_eq hΓ dJ27_get_16 (by decide)) (fun c => ?_) (fun c => ?_)
    · rw [if_pos c] at e
      exact xm_lx (hB_24 _ _ _ e hp) (And.intro rfl (trivial))
    · rw [if_neg c] at e
      refine xw_ald (show xm_Imp g Γ 19 (xi_ald 0 20) from xs_aload_n hΓ dJ27_get_19) rfl ?_
      refine xw_aldo (x := v1) (show xm_Imp g Γ 20 (xi_ald 2 21) from xs_aload_n hΓ dJ27_get_20) rfl ?_
      obtain ⟨_, e0, e⟩ := xo_b_s e
      obtain ⟨v5, e1, e⟩ := xo_b_s e
      refine xw_hu1 (o := (some p0)) (show xm_Imp g Γ 21 (xi_vir g 18 M_J27_afterNodeAccess 1 1 24) from xs_invV hG hΓ k_J27_afterNodeAccess rfl (ci := 18) rfl q2754 q2707 q3538 dJ27_get_21) rfl rfl e0 (fun Q X hQ => K_J27_afterNodeAccess hG p0 v1 _ e1 hQ) ?_
      exact xm_lx (hB_24 _ _ _ e hp) (And.intro rfl (trivial))
noncomputable def D_X1_isSame_33 (g : xm_G) (l2 : Option Nat) (l3 : Option Nat) (l4 : Int32) (Q : Int32 → xm_H → Prop) (X : xm_X) (k33 : Int32 × xm_H × Nat × Nat → Prop) (s : Int32 × xm_H × Nat × Nat) : Prop :=
 (if l4 ≤ s.1 then
 Q 1 s.2.1 else
 xt_b l3 (fun a27 =>
 xt_b (xh_ar "StringTableau$Row" s.2.1 a27 s.1) (fun v28 =>
 xt_b v28 (fun a29 =>
 xt_b (xh_is 3 s.2.1 a29) (fun _ =>
 xt_c s.2.2.1 s.2.2.2 (fun m30 m31 => F_X4_word g a29 s.2.1 m30 m31 (fun v33 h32 =>
 xt_b l2 (fun a34 =>
 xt_b (xh_ci h32 a34) (fun c35 =>
 (if c35 = 17 then
 xt_b (F_J26_get g a34 v33 h32) (fun v36 =>
 xt_b (xh_castY "java/lang/Boolean" h32 v36) (fun _ =>
 (if v36 = none then
 Q 0 h32 else
 xt_b v36 (fun a37 =>
 xt_b (xm_bv g (some a37)) (fun v38 =>
 xt_b (xh_fi [(3, 2)] h32 a29) (fun v39 =>
 (if v38 = v39 then
 k33 ((s.1 + 1), h32, (s.2.2.1 - m30), (s.2.2.2 - m31)) else
 Q 0 h32))))))) else
 (if c35 = 18 then
 xt_b (F_J27_get g a34 v33 h32) (fun v40 =>
 xt_b (xh_castY "java/lang/Boolean" v40.2 v40.1) (fun _ =>
 (if v40.1 = none then
 Q 0 v40.2 else
 xt_b v40.1 (fun a41 =>
 xt_b (xm_bv g (some a41)) (fun v42 =>
 xt_b (xh_fi [(3, 2)] v40.2 a29) (fun v43 =>
 (if v42 = v43 then
 k33 ((s.1 + 1), v40.2, (s.2.2.1 - m30), (s.2.2.2 - m31)) else
 Q 0 v40.2))))))) else
 False)))))))))))
noncomputable def L_X1_isSame_33 (g : xm_G) (l2 : Option Nat) (l3 : Option Nat) (l4 : Int32) (Q : Int32 → xm_H → Prop) (X : xm_X) (s : Int32 × xm_H × Nat × Nat) : Prop := xt_loop (D_X1_isSame_33 g l2 l3 l4 Q X) s
noncomputable def F_X1_isSame (g : xm_G) (p0 : Nat) (p1 : Int32) (h : xm_H) (bc : Nat) (bs : Nat) (Q : Int32 → xm_H → Prop) (X : xm_X) : Prop :=
 xt_b (xh_is 0 h p0) (fun _ =>
 xt_c bc bs (fun m1 m2 => F_X1_kept g p0 p1 h m1 m2 (fun v4 h3 =>
 xt_b v4 (fun a5 =>
 xt_b (xh_is 2 h3 a5) (fun _ =>
 xt_c (bc - m1) (bs - m2) (fun m6 m7 => F_X3_canonical g a5 h3 m6 m7 (fun v9 h8 =>
 xt_b v9 (fun a10 =>
 xt_b (xh_is 2 h8 a10) (fun _ =>
 xt_c ((bc - m1) - m6) ((bs - m2) - m7) (fun m11 m12 => F_X3_signs g a10 h8 m11 m12 (fun v14 h13 =>
 xt_b (xh_fr [(0, 0)] h13 p0) (fun v15 =>
 xt_b v15 (fun a16 =>
 xt_b (xh_fr [(1, 0)] h13 a16) (fun v17 =>
 xt_b v17 (fun a18 =>
 xt_b (xh_is 2 h13 a18) (fun _ =>
 xt_c (((bc - m1) - m6) - m11) (((bs - m2) - m7) - m12) (fun m19 m20 => F_X3_canonical g a18 h13 m19 m20 (fun v22 h21 =>
 xt_b v22 (fun a23 =>
 xt_b (xh_fr [(2, 0)] h21 a23) (fun v24 =>
 xt_b v24 (fun a25 =>
 xt_b (xh_len h21 a25) (fun v26 =>
 L_X1_isSame_33 g v14 v24 v26 Q X (0, h21, ((((bc - m1) - m6) - m11) - m19), ((((bs - m2) - m7) - m12) - m20)))))))))))))))))))))) X))
set_option maxHeartbeats 4000000 in
theorem K_X1_isSame {g : xm_G} (hG : xm_Gw g) (p0 : Nat) (p1 : Int32) (h : xm_H) (bc : Nat) (bs : Nat) {Q : Int32 → xm_H → Prop} {X : xm_X} (e : F_X1_isSame g p0 p1 h bc bs Q X) : xm_Run g M_X1_isSame 10 [.ref p0, .int p1] h bc bs (fun v h' => ∃ r, v = some (.int r) ∧ Q r h') X := by
  refine xm_Run.of pn_StringTableau (Nat.le_of_ble_eq_true rfl) (fun Γ hΓ => ?_)
  show xm_W g Γ 0 [some (.ref p0), some (.int p1), none, none, none, none, none, none] [] h bc bs
  have hL_33 : ∀ (l2 : Option Nat) (l3 : Option Nat) (l4 : Int32) (s : Int32 × xm_H × Nat × Nat), L_X1_isSame_33 g l2 l3 l4 Q X s → xm_W g Γ 33 [none, none, some (va_rf l2), some (va_rf l3), some (.int l4), some (.int s.1), none, none] [] s.2.1 s.2.2.1 s.2.2.2 := by
    intro l2 l3 l4
    refine xt_rule (WS := fun s : Int32 × xm_H × Nat × Nat => xm_W g Γ 33 [none, none, some (va_rf l2), some (va_rf l3), some (.int l4), some (.int s.1), none, none] [] s.2.1 s.2.2.1 s.2.2.2) ?_
    intro k33 hk33 s e
    unfold D_X1_isSame_33 at e
    refine xw_ild (show xm_Imp g Γ 33 (xi_ild 5 35) from xs_iload hΓ dX1_isSame_33) rfl ?_
    refine xw_ild (show xm_Imp g Γ 35 (xi_ild 4 37) from xs_iload hΓ dX1_isSame_35) rfl ?_
    refine xw_ic (show xm_Imp g Γ 37 (xi_ic (fun x y => y ≤ x) 88 40) from xs_icmp_ge hΓ dX1_isSame_37 (by decide)) (fun c => ?_) (fun c => ?_)
    · rw [if_pos c] at e
      refine xw_psh (v := (.int (1))) (show xm_Imp g Γ 88 (xi_psh (.int (1)) 89) from xs_iconst hΓ dX1_isSame_88 (by decide)) ?_
      exact xw_iret (show xm_Imp g Γ 89 (xi_iret .boolean _) from xs_ireturn hΓ rfl dX1_isSame_89) rfl ⟨_, rfl, e⟩
    · rw [if_neg c] at e
      refine xw_aldo (x := l3) (show xm_Imp g Γ 40 (xi_ald 3 41) from xs_aload_n hΓ dX1_isSame_40) rfl ?_
      refine xw_ild (show xm_Imp g Γ 41 (xi_ild 5 43) from xs_iload hΓ dX1_isSame_41) rfl ?_
      obtain ⟨a27, ha27, e⟩ := e
      obtain ⟨v28, e1, e⟩ := e
      refine xw_haal (o := l3) (show xm_Imp g Γ 43 (xi_aal "StringTableau$Row" 44) from xs_aal hG hΓ dX1_isSame_43) ha27 e1 ?_
      refine xw_asto (x := v28) (ls' := [none, none, some (va_rf l2), some (va_rf l3), some (.int l4), some (.int s.1), some (va_rf v28), none]) (show xm_Imp g Γ 44 (xi_ast 6 46) from xs_astore hΓ dX1_isSame_44 (Nat.le_of_ble_eq_true rfl)) rfl ?_
      refine xw_aldo (x := l2) (show xm_Imp g Γ 46 (xi_ald 2 47) from xs_aload_n hΓ dX1_isSame_46) rfl ?_
      refine xw_aldo (x := v28) (show xm_Imp g Γ 47 (xi_ald 6 49) from xs_aload hΓ dX1_isSame_47) rfl ?_
      obtain ⟨a29, ha29, e⟩ := e
      obtain ⟨_, e0, e⟩ := e
      obtain ⟨m30, m31, ⟨em1, em2⟩, e⟩ := e
      refine xw_tvr0 (o := v28) (show xm_Imp g Γ 49 (xi_vir g 3 M_X4_word 3 0 52) from xs_invV hG hΓ k_X4_word rfl (ci := 3) rfl q2725 q2207 q2208 dX1_isSame_49) (by simp [xm_stk, xv_cat, xc_int, xc_long, xc_float, xc_double, xc_ref]) ha29 e0 em1 em2 (K_X4_word hG a29 _ _ _ e) (fun v33 h32 e => ?_)
      obtain ⟨a34, ha34, e⟩ := e
      obtain ⟨c35, e0, e⟩ := e
      by_cases cc0 : c35 = 17
      · rw [if_pos cc0] at e
        obtain ⟨v36, e1, e⟩ := e
        refine xw_hv1 (o := l2) (xm_or1 (show xm_Imp g Γ 52 (xi_or (xi_vir g 17 M_J26_get 4 1 57) (xi_vir g 18 M_J27_get 4 1 57)) from xs_or (xs_invF hG hΓ k_J26_get rfl (ci := 17) rfl q2727 q2732 q2730 ⟨by decide, by decide⟩ (by decide +kernel) q2729 q2728 q2733 q2731 q2234 dX1_isSame_52) (xs_invF hG hΓ k_J27_get rfl (ci := 18) rfl q2727 q2747 q2745 ⟨by decide, by decide⟩ (by decide +kernel) q2729 q2728 q2748 q2746 q2722 dX1_isSame_52))) (by simp [xm_stk, xv_cat, xc_int, xc_long, xc_float, xc_double, xc_ref]) ha34 (xh_is_of e0 cc0) (fun Q X hQ => K_J26_get hG a34 v33 _ e1 hQ) ?_
        obtain ⟨_, e1, e⟩ := e
        refine xw_castY (o := v36) (show xm_Imp g Γ 57 (xi_castY "java/lang/Boolean" 60) from xs_castY hG hΓ q2755 dX1_isSame_57) e1 ?_
        refine xw_asto (x := v36) (ls' := [none, none, some (va_rf l2), some (va_rf l3), some (.int l4), some (.int s.1), some (va_rf v28), some (va_rf v36)]) (show xm_Imp g Γ 60 (xi_ast 7 62) from xs_astore hΓ dX1_isSame_60 (Nat.le_of_ble_eq_true rfl)) ((xm_s1_o (o := v28) rfl).trans rfl) ?_
        refine xw_aldo (x := v36) (show xm_Imp g Γ 62 (xi_ald 7 64) from xs_aload hΓ dX1_isSame_62) rfl ?_
        refine xw_nul (o := v36) (show xm_Imp g Γ 64 (xi_nul 80 67) from xs_ifnull hΓ dX1_isSame_64 (by decide)) (fun c => ?_) (fun c => ?_)
        · rw [if_pos c] at e
          refine xw_psh (v := (.int (0))) (show xm_Imp g Γ 80 (xi_psh (.int (0)) 81) from xs_iconst hΓ dX1_isSame_80 (by decide)) ?_
          exact xw_iret (show xm_Imp g Γ 81 (xi_iret .boolean _) from xs_ireturn hΓ rfl dX1_isSame_81) rfl ⟨_, rfl, e⟩
        · rw [if_neg c] at e
          refine xw_aldo (x := v36) (show xm_Imp g Γ 67 (xi_ald 7 69) from xs_aload hΓ dX1_isSame_67) rfl ?_
          obtain ⟨a37, ha37, e⟩ := e
          obtain ⟨v38, e1, e⟩ := e
          refine xw_bv (o := v36) (show xm_Imp g Γ 69 (xi_bv g 72) from xs_bv hG hΓ rfl q2756 dX1_isSame_69) ha37 (by simp [xm_stk, xv_cat, xc_int, xc_long, xc_float, xc_double, xc_ref]) e1 ?_
          refine xw_aldo (x := v28) (show xm_Imp g Γ 72 (xi_ald 6 74) from xs_aload hΓ dX1_isSame_72) rfl ?_
          obtain ⟨v39, e1, e⟩ := e
          refine xw_gi1 (o := v28) (show xm_Imp g Γ 74 (xi_get 3 2 77) from xs_getN hG hΓ (ci := 3) (kf := 2) rfl (Nat.le_of_ble_eq_true rfl) q259 dX1_isSame_74) ha29 e1 ?_
          refine xw_ic (show xm_Imp g Γ 77 (xi_ic (fun x y => x = y) 82 80) from xs_icmp_eq hΓ dX1_isSame_77 (by decide)) (fun c => ?_) (fun c => ?_)
          · rw [if_pos c] at e
            refine xw_inc (v := (1)) (ls' := [none, none, some (va_rf l2), some (va_rf l3), some (.int l4), some (.int (s.1 + 1)), some (va_rf v28), some (va_rf v36)]) (show xm_Imp g Γ 82 (xi_inc 5 (1) 85) from xs_iinc hΓ dX1_isSame_82 (by decide) (Nat.le_of_ble_eq_true rfl)) rfl rfl ?_
            refine xw_goto (show xm_Imp g Γ 85 (xi_goto 33) from xs_goto hΓ dX1_isSame_85 (by decide)) ?_
            have hq := hk33 _ e; exact xm_lx (hq) (And.intro rfl (And.intro rfl (And.intro rfl (And.intro rfl (trivial)))))
          · rw [if_neg c] at e
            refine xw_psh (v := (.int (0))) (show xm_Imp g Γ 80 (xi_psh (.int (0)) 81) from xs_iconst hΓ dX1_isSame_80 (by decide)) ?_
            exact xw_iret (show xm_Imp g Γ 81 (xi_iret .boolean _) from xs_ireturn hΓ rfl dX1_isSame_81) rfl ⟨_, rfl, e⟩
      rw [if_neg cc0] at e
      by_cases cc1 : c35 = 18
      · rw [if_pos cc1] at e
        obtain ⟨v40, e1, e⟩ := e
        refine xw_hv1 (o := l2) (xm_or2 (show xm_Imp g Γ 52 (xi_or (xi_vir g 17 M_J26_get 4 1 57) (xi_vir g 18 M_J27_get 4 1 57)) from xs_or (xs_invF hG hΓ k_J26_get rfl (ci := 17) rfl q2727 q2732 q2730 ⟨by decide, by decide⟩ (by decide +kernel) q2729 q2728 q2733 q2731 q2234 dX1_isSame_52) (xs_invF hG hΓ k_J27_get rfl (ci := 18) rfl q2727 q2747 q2745 ⟨by decide, by decide⟩ (by decide +kernel) q2729 q2728 q2748 q2746 q2722 dX1_isSame_52))) (by simp [xm_stk, xv_cat, xc_int, xc_long, xc_float, xc_double, xc_ref]) ha34 (xh_is_of e0 cc1) (fun Q X hQ => K_J27_get hG a34 v33 _ e1 hQ) ?_
        obtain ⟨_, e1, e⟩ := e
        refine xw_castY (o := v40.1) (show xm_Imp g Γ 57 (xi_castY "java/lang/Boolean" 60) from xs_castY hG hΓ q2755 dX1_isSame_57) e1 ?_
        refine xw_asto (x := v40.1) (ls' := [none, none, some (va_rf l2), some (va_rf l3), some (.int l4), some (.int s.1), some (va_rf v28), some (va_rf v40.1)]) (show xm_Imp g Γ 60 (xi_ast 7 62) from xs_astore hΓ dX1_isSame_60 (Nat.le_of_ble_eq_true rfl)) ((xm_s1_o (o := v28) rfl).trans rfl) ?_
        refine xw_aldo (x := v40.1) (show xm_Imp g Γ 62 (xi_ald 7 64) from xs_aload hΓ dX1_isSame_62) rfl ?_
        refine xw_nul (o := v40.1) (show xm_Imp g Γ 64 (xi_nul 80 67) from xs_ifnull hΓ dX1_isSame_64 (by decide)) (fun c => ?_) (fun c => ?_)
        · rw [if_pos c] at e
          refine xw_psh (v := (.int (0))) (show xm_Imp g Γ 80 (xi_psh (.int (0)) 81) from xs_iconst hΓ dX1_isSame_80 (by decide)) ?_
          exact xw_iret (show xm_Imp g Γ 81 (xi_iret .boolean _) from xs_ireturn hΓ rfl dX1_isSame_81) rfl ⟨_, rfl, e⟩
        · rw [if_neg c] at e
          refine xw_aldo (x := v40.1) (show xm_Imp g Γ 67 (xi_ald 7 69) from xs_aload hΓ dX1_isSame_67) rfl ?_
          obtain ⟨a41, ha41, e⟩ := e
          obtain ⟨v42, e1, e⟩ := e
          refine xw_bv (o := v40.1) (show xm_Imp g Γ 69 (xi_bv g 72) from xs_bv hG hΓ rfl q2756 dX1_isSame_69) ha41 (by simp [xm_stk, xv_cat, xc_int, xc_long, xc_float, xc_double, xc_ref]) e1 ?_
          refine xw_aldo (x := v28) (show xm_Imp g Γ 72 (xi_ald 6 74) from xs_aload hΓ dX1_isSame_72) rfl ?_
          obtain ⟨v43, e1, e⟩ := e
          refine xw_gi1 (o := v28) (show xm_Imp g Γ 74 (xi_get 3 2 77) from xs_getN hG hΓ (ci := 3) (kf := 2) rfl (Nat.le_of_ble_eq_true rfl) q259 dX1_isSame_74) ha29 e1 ?_
          refine xw_ic (show xm_Imp g Γ 77 (xi_ic (fun x y => x = y) 82 80) from xs_icmp_eq hΓ dX1_isSame_77 (by decide)) (fun c => ?_) (fun c => ?_)
          · rw [if_pos c] at e
            refine xw_inc (v := (1)) (ls' := [none, none, some (va_rf l2), some (va_rf l3), some (.int l4), some (.int (s.1 + 1)), some (va_rf v28), some (va_rf v40.1)]) (show xm_Imp g Γ 82 (xi_inc 5 (1) 85) from xs_iinc hΓ dX1_isSame_82 (by decide) (Nat.le_of_ble_eq_true rfl)) rfl rfl ?_
            refine xw_goto (show xm_Imp g Γ 85 (xi_goto 33) from xs_goto hΓ dX1_isSame_85 (by decide)) ?_
            have hq := hk33 _ e; exact xm_lx (hq) (And.intro rfl (And.intro rfl (And.intro rfl (And.intro rfl (trivial)))))
          · rw [if_neg c] at e
            refine xw_psh (v := (.int (0))) (show xm_Imp g Γ 80 (xi_psh (.int (0)) 81) from xs_iconst hΓ dX1_isSame_80 (by decide)) ?_
            exact xw_iret (show xm_Imp g Γ 81 (xi_iret .boolean _) from xs_ireturn hΓ rfl dX1_isSame_81) rfl ⟨_, rfl, e⟩
      rw [if_neg cc1] at e
      exact e.elim
  unfold F_X1_isSame at e
  refine xw_ald (show xm_Imp g Γ 0 (xi_ald 0 1) from xs_aload_n hΓ dX1_isSame_0) rfl ?_
  refine xw_ild (show xm_Imp g Γ 1 (xi_ild 1 2) from xs_iload_n hΓ dX1_isSame_1) rfl ?_
  obtain ⟨_, e0, e⟩ := e
  obtain ⟨m1, m2, ⟨em1, em2⟩, e⟩ := e
  refine xw_tXvr1 (o := (some p0)) (show xm_Imp g Γ 2 (xi_virX g 0 M_X1_kept 9 1 5 X) from xs_invVX hG hΓ k_X1_kept rfl rfl (ci := 0) rfl q1944 q1946 qs39 dX1_isSame_2) rfl rfl e0 em1 em2 (K_X1_kept hG p0 p1 _ _ _ e) (fun v4 h3 e => ?_)
  obtain ⟨a5, ha5, e⟩ := e
  obtain ⟨_, e0, e⟩ := e
  obtain ⟨m6, m7, ⟨em1, em2⟩, e⟩ := e
  refine xw_tvr0 (o := v4) (show xm_Imp g Γ 5 (xi_vir g 2 M_X3_canonical 6 0 8) from xs_invV hG hΓ k_X3_canonical rfl (ci := 2) rfl q1602 q1603 q1604 dX1_isSame_5) (by simp [xm_stk, xv_cat, xc_int, xc_long, xc_float, xc_double, xc_ref]) ha5 e0 em1 em2 (K_X3_canonical hG a5 _ _ _ e) (fun v9 h8 e => ?_)
  obtain ⟨a10, ha10, e⟩ := e
  obtain ⟨_, e0, e⟩ := e
  obtain ⟨m11, m12, ⟨em1, em2⟩, e⟩ := e
  refine xw_tvr0 (o := v9) (show xm_Imp g Γ 8 (xi_vir g 2 M_X3_signs 9 0 11) from xs_invV hG hΓ k_X3_signs rfl (ci := 2) rfl q2153 q2154 q2155 dX1_isSame_8) (by simp [xm_stk, xv_cat, xc_int, xc_long, xc_float, xc_double, xc_ref]) ha10 e0 em1 em2 (K_X3_signs hG a10 _ _ _ e) (fun v14 h13 e => ?_)
  refine xw_asto (x := v14) (ls' := [some (.ref p0), some (.int p1), some (va_rf v14), none, none, none, none, none]) (show xm_Imp g Γ 11 (xi_ast 2 12) from xs_astore_n hΓ dX1_isSame_11 (Nat.le_of_ble_eq_true rfl)) rfl ?_
  refine xw_ald (show xm_Imp g Γ 12 (xi_ald 0 13) from xs_aload_n hΓ dX1_isSame_12) rfl ?_
  obtain ⟨v15, e1, e⟩ := e
  refine xw_gr1 (o := (some p0)) (show xm_Imp g Γ 13 (xi_get 0 0 16) from xs_get hG hΓ (ci := 0) (kf := 0) rfl (Nat.le_of_ble_eq_true rfl) q343 dX1_isSame_13) rfl e1 ?_
  obtain ⟨a16, ha16, e⟩ := e
  obtain ⟨v17, e1, e⟩ := e
  refine xw_gr1 (o := v15) (show xm_Imp g Γ 16 (xi_get 1 0 19) from xs_getN hG hΓ (ci := 1) (kf := 0) rfl (Nat.le_of_ble_eq_true rfl) q276 dX1_isSame_16) ha16 e1 ?_
  obtain ⟨a18, ha18, e⟩ := e
  obtain ⟨_, e0, e⟩ := e
  obtain ⟨m19, m20, ⟨em1, em2⟩, e⟩ := e
  refine xw_tvr0 (o := v17) (show xm_Imp g Γ 19 (xi_vir g 2 M_X3_canonical 6 0 22) from xs_invV hG hΓ k_X3_canonical rfl (ci := 2) rfl q1602 q1603 q1604 dX1_isSame_19) (by simp [xm_stk, xv_cat, xc_int, xc_long, xc_float, xc_double, xc_ref]) ha18 e0 em1 em2 (K_X3_canonical hG a18 _ _ _ e) (fun v22 h21 e => ?_)
  obtain ⟨a23, ha23, e⟩ := e
  obtain ⟨v24, e1, e⟩ := e
  refine xw_gr1 (o := v22) (show xm_Imp g Γ 22 (xi_get 2 0 25) from xs_getN hG hΓ (ci := 2) (kf := 0) rfl (Nat.le_of_ble_eq_true rfl) q271 dX1_isSame_22) ha23 e1 ?_
  refine xw_asto (x := v24) (ls' := [some (.ref p0), some (.int p1), some (va_rf v14), some (va_rf v24), none, none, none, none]) (show xm_Imp g Γ 25 (xi_ast 3 26) from xs_astore_n hΓ dX1_isSame_25 (Nat.le_of_ble_eq_true rfl)) ((xm_s1_o (o := v14) rfl).trans rfl) ?_
  refine xw_aldo (x := v24) (show xm_Imp g Γ 26 (xi_ald 3 27) from xs_aload_n hΓ dX1_isSame_26) rfl ?_
  obtain ⟨a25, ha25, e⟩ := e
  obtain ⟨v26, e1, e⟩ := e
  refine xw_hlen (o := v24) (show xm_Imp g Γ 27 (xi_len 28) from xs_len hG hΓ dX1_isSame_27) ha25 e1 ?_
  refine xw_ist (ls' := [some (.ref p0), some (.int p1), some (va_rf v14), some (va_rf v24), some (.int v26), none, none, none]) (show xm_Imp g Γ 28 (xi_ist 4 30) from xs_istore hΓ dX1_isSame_28 (Nat.le_of_ble_eq_true rfl)) ((xm_s1_o (o := v24) rfl).trans rfl) ?_
  refine xw_psh (v := (.int (0))) (show xm_Imp g Γ 30 (xi_psh (.int (0)) 31) from xs_iconst hΓ dX1_isSame_30 (by decide)) ?_
  refine xw_ist (ls' := [some (.ref p0), some (.int p1), some (va_rf v14), some (va_rf v24), some (.int v26), some (.int 0), none, none]) (show xm_Imp g Γ 31 (xi_ist 5 33) from xs_istore hΓ dX1_isSame_31 (Nat.le_of_ble_eq_true rfl)) rfl ?_
  exact xm_lx (hL_33 _ _ _ _ e) (And.intro rfl (And.intro rfl (And.intro rfl (And.intro rfl (trivial)))))
noncomputable def D_X1_overlap_20 (g : xm_G) (l0 : Nat) (l2 : Option Nat) (l4 : Option Nat) (Q : Int32 → xm_H → Prop) (X : xm_X) (k20 : Int32 × xm_H × Nat × Nat → Prop) (s : Int32 × xm_H × Nat × Nat) : Prop :=
 xt_b l4 (fun a13 =>
 xt_b (xh_ci s.2.1 a13) (fun c14 =>
 (if c14 = 10 then
 xt_b (F_X12_hasNext g a13 s.2.1) (fun v15 =>
 (if v15 = 0 then
 xt_b (xh_is 0 s.2.1 l0) (fun _ =>
 xt_b (F_X1_qubits g l0 s.2.1) (fun v16 =>
 Q (v16 - (F_J17_numberOfTrailingZeros s.1)) s.2.1)) else
 xt_b (xh_ci s.2.1 a13) (fun c17 =>
 (if c17 = 10 then
 xt_c s.2.2.1 s.2.2.2 (fun m18 m19 => F_X12_next g a13 s.2.1 m18 m19 (fun v21 h20 =>
 xt_b (xh_cast "StringTableau$Row" h20 v21) (fun _ =>
 xt_b l2 (fun a22 =>
 xt_b (xh_is 2 h20 a22) (fun _ =>
 xt_c (s.2.2.1 - m18) (s.2.2.2 - m19) (fun m23 m24 => F_X3_contains g a22 v21 h20 m23 m24 (fun v26 h25 =>
 (if v26 = ((-1) : Int32) then
 Q (-1) h25 else
 k20 ((s.1 + v26), h25, ((s.2.2.1 - m18) - m23), ((s.2.2.2 - m19) - m24)))))))))) else
 (if c17 = 16 then
 xt_b (F_J23_next g a13 s.2.1) (fun v27 =>
 xt_b (xh_cast "StringTableau$Row" v27.2 v27.1) (fun _ =>
 xt_b l2 (fun a28 =>
 xt_b (xh_is 2 v27.2 a28) (fun _ =>
 xt_c s.2.2.1 s.2.2.2 (fun m29 m30 => F_X3_contains g a28 v27.1 v27.2 m29 m30 (fun v32 h31 =>
 (if v32 = ((-1) : Int32) then
 Q (-1) h31 else
 k20 ((s.1 + v32), h31, (s.2.2.1 - m29), (s.2.2.2 - m30))))))))) else
 False))))) else
 (if c14 = 16 then
 xt_b (F_J23_hasNext g a13 s.2.1) (fun v33 =>
 (if v33 = 0 then
 xt_b (xh_is 0 s.2.1 l0) (fun _ =>
 xt_b (F_X1_qubits g l0 s.2.1) (fun v34 =>
 Q (v34 - (F_J17_numberOfTrailingZeros s.1)) s.2.1)) else
 xt_b (xh_ci s.2.1 a13) (fun c35 =>
 (if c35 = 10 then
 xt_c s.2.2.1 s.2.2.2 (fun m36 m37 => F_X12_next g a13 s.2.1 m36 m37 (fun v39 h38 =>
 xt_b (xh_cast "StringTableau$Row" h38 v39) (fun _ =>
 xt_b l2 (fun a40 =>
 xt_b (xh_is 2 h38 a40) (fun _ =>
 xt_c (s.2.2.1 - m36) (s.2.2.2 - m37) (fun m41 m42 => F_X3_contains g a40 v39 h38 m41 m42 (fun v44 h43 =>
 (if v44 = ((-1) : Int32) then
 Q (-1) h43 else
 k20 ((s.1 + v44), h43, ((s.2.2.1 - m36) - m41), ((s.2.2.2 - m37) - m42)))))))))) else
 (if c35 = 16 then
 xt_b (F_J23_next g a13 s.2.1) (fun v45 =>
 xt_b (xh_cast "StringTableau$Row" v45.2 v45.1) (fun _ =>
 xt_b l2 (fun a46 =>
 xt_b (xh_is 2 v45.2 a46) (fun _ =>
 xt_c s.2.2.1 s.2.2.2 (fun m47 m48 => F_X3_contains g a46 v45.1 v45.2 m47 m48 (fun v50 h49 =>
 (if v50 = ((-1) : Int32) then
 Q (-1) h49 else
 k20 ((s.1 + v50), h49, (s.2.2.1 - m47), (s.2.2.2 - m48))))))))) else
 False))))) else
 False))))
noncomputable def L_X1_overlap_20 (g : xm_G) (l0 : Nat) (l2 : Option Nat) (l4 : Option Nat) (Q : Int32 → xm_H → Prop) (X : xm_X) (s : Int32 × xm_H × Nat × Nat) : Prop := xt_loop (D_X1_overlap_20 g l0 l2 l4 Q X) s
noncomputable def F_X1_overlap (g : xm_G) (p0 : Nat) (p1 : Int32) (h : xm_H) (bc : Nat) (bs : Nat) (Q : Int32 → xm_H → Prop) (X : xm_X) : Prop :=
 xt_b (xh_is 0 h p0) (fun _ =>
 xt_c bc bs (fun m1 m2 => F_X1_kept g p0 p1 h m1 m2 (fun v4 h3 =>
 xt_b (xh_fr [(0, 0)] h3 p0) (fun v5 =>
 xt_b v5 (fun a6 =>
 xt_b (xh_fr [(1, 0)] h3 a6) (fun v7 =>
 xt_b v7 (fun a8 =>
 xt_b (xh_is 2 h3 a8) (fun _ =>
 xt_c (bc - m1) (bs - m2) (fun m9 m10 => F_X3_iterator g a8 h3 m9 m10 (fun v12 h11 =>
 L_X1_overlap_20 g p0 v4 v12 Q X (0, h11, ((bc - m1) - m9), ((bs - m2) - m10)))))))))) X))
set_option maxHeartbeats 4000000 in
theorem K_X1_overlap {g : xm_G} (hG : xm_Gw g) (p0 : Nat) (p1 : Int32) (h : xm_H) (bc : Nat) (bs : Nat) {Q : Int32 → xm_H → Prop} {X : xm_X} (e : F_X1_overlap g p0 p1 h bc bs Q X) : xm_Run g M_X1_overlap 10 [.ref p0, .int p1] h bc bs (fun v h' => ∃ r, v = some (.int r) ∧ Q r h') X := by
  refine xm_Run.of pn_StringTableau (Nat.le_of_ble_eq_true rfl) (fun Γ hΓ => ?_)
  show xm_W g Γ 0 [some (.ref p0), some (.int p1), none, none, none, none, none] [] h bc bs
  have hL_20 : ∀ (l0 : Nat) (l2 : Option Nat) (l4 : Option Nat) (s : Int32 × xm_H × Nat × Nat), L_X1_overlap_20 g l0 l2 l4 Q X s → xm_W g Γ 20 [some (.ref l0), none, some (va_rf l2), some (.int s.1), some (va_rf l4), none, none] [] s.2.1 s.2.2.1 s.2.2.2 := by
    intro l0 l2 l4
    refine xt_rule (WS := fun s : Int32 × xm_H × Nat × Nat => xm_W g Γ 20 [some (.ref l0), none, some (va_rf l2), some (.int s.1), some (va_rf l4), none, none] [] s.2.1 s.2.2.1 s.2.2.2) ?_
    intro k20 hk20 s e
    unfold D_X1_overlap_20 at e
    refine xw_aldo (x := l4) (show xm_Imp g Γ 20 (xi_ald 4 22) from xs_aload hΓ dX1_overlap_20) rfl ?_
    obtain ⟨a13, ha13, e⟩ := e
    obtain ⟨c14, e0, e⟩ := e
    by_cases cc0 : c14 = 10
    · rw [if_pos cc0] at e
      obtain ⟨v15, e1, e⟩ := e
      refine xw_hv0 (o := l4) (xm_or1 (show xm_Imp g Γ 22 (xi_or (xi_vir g 10 M_X12_hasNext 1 0 27) (xi_vir g 16 M_J23_hasNext 1 0 27)) from xs_or (xs_invF hG hΓ k_X12_hasNext rfl (ci := 10) rfl q1655 q1401 q1399 ⟨by decide, by decide⟩ (by decide +kernel) q1397 q1396 q1402 q1400 q1398 dX1_overlap_22) (xs_invF hG hΓ k_J23_hasNext rfl (ci := 16) rfl q1655 q1407 q1405 ⟨by decide, by decide⟩ (by decide +kernel) q1397 q1396 q1408 q1406 q1404 dX1_overlap_22))) (by simp [xm_stk, xv_cat, xc_int, xc_long, xc_float, xc_double, xc_ref]) ha13 (xh_is_of e0 cc0) (fun Q X hQ => K_X12_hasNext hG a13 _ e1 hQ) ?_
      refine xw_if (show xm_Imp g Γ 27 (xi_if (fun x => x = 0) 66 30) from xs_if_eq hΓ dX1_overlap_27 (by decide)) (fun c => ?_) (fun c => ?_)
      · rw [if_pos c] at e
        refine xw_ald (show xm_Imp g Γ 66 (xi_ald 0 67) from xs_aload_n hΓ dX1_overlap_66) rfl ?_
        obtain ⟨_, e0, e⟩ := e
        obtain ⟨v16, e1, e⟩ := e
        refine xw_hv0 (o := (some l0)) (show xm_Imp g Γ 67 (xi_vir g 0 M_X1_qubits 1 0 70) from xs_invV hG hΓ k_X1_qubits rfl (ci := 0) rfl q1139 q1141 qs20 dX1_overlap_67) rfl rfl e0 (fun Q X hQ => K_X1_qubits hG l0 _ e1 hQ) ?_
        refine xw_ild (show xm_Imp g Γ 70 (xi_ild 3 71) from xs_iload_n hΓ dX1_overlap_70) rfl ?_
        refine xw_sv1 (show xm_Imp g Γ 71 (xi_inv g M_J17_numberOfTrailingZeros 1 1 74) from xs_invS hG hΓ k_J17_numberOfTrailingZeros rfl q1680 q1569 dX1_overlap_71) rfl (fun Q X hQ => K_J17_numberOfTrailingZeros hG s.1 rfl hQ) ?_
        refine xw_ii (show xm_Imp g Γ 74 (xi_ii (fun x y => x - y) 75) from xs_isub hΓ dX1_overlap_74) ?_
        exact xw_iret (show xm_Imp g Γ 75 (xi_iret .int _) from xs_ireturn hΓ rfl dX1_overlap_75) (xn_int _) ⟨_, rfl, e⟩
      · rw [if_neg c] at e
        refine xw_aldo (x := l4) (show xm_Imp g Γ 30 (xi_ald 4 32) from xs_aload hΓ dX1_overlap_30) rfl ?_
        obtain ⟨c17, e0, e⟩ := e
        by_cases cc0 : c17 = 10
        · rw [if_pos cc0] at e
          obtain ⟨m18, m19, ⟨em1, em2⟩, e⟩ := e
          refine xw_tvr0 (o := l4) (xm_or1 (show xm_Imp g Γ 32 (xi_or (xi_vir g 10 M_X12_next 9 0 37) (xi_vir g 16 M_J23_next 9 0 37)) from xs_or (xs_invF hG hΓ k_X12_next rfl (ci := 10) rfl q1657 q1416 q1414 ⟨by decide, by decide⟩ (by decide +kernel) q1413 q1412 q1417 q1415 q1398 dX1_overlap_32) (xs_invF hG hΓ k_J23_next rfl (ci := 16) rfl q1657 q1448 q1446 ⟨by decide, by decide⟩ (by decide +kernel) q1413 q1412 q1449 q1447 q1404 dX1_overlap_32))) (by simp [xm_stk, xv_cat, xc_int, xc_long, xc_float, xc_double, xc_ref]) ha13 (xh_is_of e0 cc0) em1 em2 (K_X12_next hG a13 _ _ _ e) (fun v21 h20 e => ?_)
          obtain ⟨_, e1, e⟩ := e
          refine xw_cast (o := v21) (show xm_Imp g Γ 37 (xi_cast "StringTableau$Row" 40) from xs_cast hG hΓ (xm_in 3 rfl) q1658 dX1_overlap_37) e1 ?_
          refine xw_asto (x := v21) (ls' := [some (.ref l0), none, some (va_rf l2), some (.int s.1), some (va_rf l4), some (va_rf v21), none]) (show xm_Imp g Γ 40 (xi_ast 5 42) from xs_astore hΓ dX1_overlap_40 (Nat.le_of_ble_eq_true rfl)) ((xm_s1_o (o := l4) rfl).trans rfl) ?_
          refine xw_aldo (x := l2) (show xm_Imp g Γ 42 (xi_ald 2 43) from xs_aload_n hΓ dX1_overlap_42) rfl ?_
          refine xw_aldo (x := v21) (show xm_Imp g Γ 43 (xi_ald 5 45) from xs_aload hΓ dX1_overlap_43) rfl ?_
          obtain ⟨a22, ha22, e⟩ := e
          obtain ⟨_, e0, e⟩ := e
          obtain ⟨m23, m24, ⟨em1, em2⟩, e⟩ := e
          refine xw_tvi1 (o := l2) (show xm_Imp g Γ 45 (xi_vir g 2 M_X3_contains 6 1 48) from xs_invV hG hΓ k_X3_contains rfl (ci := 2) rfl q2764 q1216 q1217 dX1_overlap_45) (by simp [xm_stk, xv_cat, xc_int, xc_long, xc_float, xc_double, xc_ref]) ha22 e0 em1 em2 (K_X3_contains hG a22 v21 _ _ _ e) (fun v26 h25 e => ?_)
          refine xw_ist (ls' := [some (.ref l0), none, some (va_rf l2), some (.int s.1), some (va_rf l4), some (va_rf v21), some (.int v26)]) (show xm_Imp g Γ 48 (xi_ist 6 50) from xs_istore hΓ dX1_overlap_48 (Nat.le_of_ble_eq_true rfl)) ((xm_s1_o (o := v21) rfl).trans rfl) ?_
          refine xw_ild (show xm_Imp g Γ 50 (xi_ild 6 52) from xs_iload hΓ dX1_overlap_50) rfl ?_
          refine xw_psh (v := (.int (-1))) (show xm_Imp g Γ 52 (xi_psh (.int (-1)) 53) from xs_iconst hΓ dX1_overlap_52 (by decide)) ?_
          refine xw_ic (show xm_Imp g Γ 53 (xi_ic (fun x y => x = y) 56 58) from xs_icmp_ne hΓ dX1_overlap_53 (by decide)) (fun c => ?_) (fun c => ?_)
          · rw [if_pos c] at e
            refine xw_psh (v := (.int (-1))) (show xm_Imp g Γ 56 (xi_psh (.int (-1)) 57) from xs_iconst hΓ dX1_overlap_56 (by decide)) ?_
            exact xw_iret (show xm_Imp g Γ 57 (xi_iret .int _) from xs_ireturn hΓ rfl dX1_overlap_57) (xn_int _) ⟨_, rfl, e⟩
          · rw [if_neg c] at e
            refine xw_ild (show xm_Imp g Γ 58 (xi_ild 3 59) from xs_iload_n hΓ dX1_overlap_58) rfl ?_
            refine xw_ild (show xm_Imp g Γ 59 (xi_ild 6 61) from xs_iload hΓ dX1_overlap_59) rfl ?_
            refine xw_ii (show xm_Imp g Γ 61 (xi_ii (fun x y => x + y) 62) from xs_iadd hΓ dX1_overlap_61) ?_
            refine xw_ist (ls' := [some (.ref l0), none, some (va_rf l2), some (.int (s.1 + v26)), some (va_rf l4), some (va_rf v21), some (.int v26)]) (show xm_Imp g Γ 62 (xi_ist 3 63) from xs_istore_n hΓ dX1_overlap_62 (Nat.le_of_ble_eq_true rfl)) ((xm_s1_o (o := l2) rfl).trans rfl) ?_
            refine xw_goto (show xm_Imp g Γ 63 (xi_goto 20) from xs_goto hΓ dX1_overlap_63 (by decide)) ?_
            have hq := hk20 _ e; exact xm_lx (hq) (And.intro rfl (And.intro rfl (And.intro rfl (And.intro rfl (trivial)))))
        rw [if_neg cc0] at e
        by_cases cc1 : c17 = 16
        · rw [if_pos cc1] at e
          obtain ⟨v27, e1, e⟩ := e
          refine xw_hv0 (o := l4) (xm_or2 (show xm_Imp g Γ 32 (xi_or (xi_vir g 10 M_X12_next 9 0 37) (xi_vir g 16 M_J23_next 9 0 37)) from xs_or (xs_invF hG hΓ k_X12_next rfl (ci := 10) rfl q1657 q1416 q1414 ⟨by decide, by decide⟩ (by decide +kernel) q1413 q1412 q1417 q1415 q1398 dX1_overlap_32) (xs_invF hG hΓ k_J23_next rfl (ci := 16) rfl q1657 q1448 q1446 ⟨by decide, by decide⟩ (by decide +kernel) q1413 q1412 q1449 q1447 q1404 dX1_overlap_32))) (by simp [xm_stk, xv_cat, xc_int, xc_long, xc_float, xc_double, xc_ref]) ha13 (xh_is_of e0 cc1) (fun Q X hQ => K_J23_next hG a13 _ e1 hQ) ?_
          obtain ⟨_, e1, e⟩ := e
          refine xw_cast (o := v27.1) (show xm_Imp g Γ 37 (xi_cast "StringTableau$Row" 40) from xs_cast hG hΓ (xm_in 3 rfl) q1658 dX1_overlap_37) e1 ?_
          refine xw_asto (x := v27.1) (ls' := [some (.ref l0), none, some (va_rf l2), some (.int s.1), some (va_rf l4), some (va_rf v27.1), none]) (show xm_Imp g Γ 40 (xi_ast 5 42) from xs_astore hΓ dX1_overlap_40 (Nat.le_of_ble_eq_true rfl)) ((xm_s1_o (o := l4) rfl).trans rfl) ?_
          refine xw_aldo (x := l2) (show xm_Imp g Γ 42 (xi_ald 2 43) from xs_aload_n hΓ dX1_overlap_42) rfl ?_
          refine xw_aldo (x := v27.1) (show xm_Imp g Γ 43 (xi_ald 5 45) from xs_aload hΓ dX1_overlap_43) rfl ?_
          obtain ⟨a28, ha28, e⟩ := e
          obtain ⟨_, e0, e⟩ := e
          obtain ⟨m29, m30, ⟨em1, em2⟩, e⟩ := e
          refine xw_tvi1 (o := l2) (show xm_Imp g Γ 45 (xi_vir g 2 M_X3_contains 6 1 48) from xs_invV hG hΓ k_X3_contains rfl (ci := 2) rfl q2764 q1216 q1217 dX1_overlap_45) (by simp [xm_stk, xv_cat, xc_int, xc_long, xc_float, xc_double, xc_ref]) ha28 e0 em1 em2 (K_X3_contains hG a28 v27.1 _ _ _ e) (fun v32 h31 e => ?_)
          refine xw_ist (ls' := [some (.ref l0), none, some (va_rf l2), some (.int s.1), some (va_rf l4), some (va_rf v27.1), some (.int v32)]) (show xm_Imp g Γ 48 (xi_ist 6 50) from xs_istore hΓ dX1_overlap_48 (Nat.le_of_ble_eq_true rfl)) ((xm_s1_o (o := v27.1) rfl).trans rfl) ?_
          refine xw_ild (show xm_Imp g Γ 50 (xi_ild 6 52) from xs_iload hΓ dX1_overlap_50) rfl ?_
          refine xw_psh (v := (.int (-1))) (show xm_Imp g Γ 52 (xi_psh (.int (-1)) 53) from xs_iconst hΓ dX1_overlap_52 (by decide)) ?_
          refine xw_ic (show xm_Imp g Γ 53 (xi_ic (fun x y => x = y) 56 58) from xs_icmp_ne hΓ dX1_overlap_53 (by decide)) (fun c => ?_) (fun c => ?_)
          · rw [if_pos c] at e
            refine xw_psh (v := (.int (-1))) (show xm_Imp g Γ 56 (xi_psh (.int (-1)) 57) from xs_iconst hΓ dX1_overlap_56 (by decide)) ?_
            exact xw_iret (show xm_Imp g Γ 57 (xi_iret .int _) from xs_ireturn hΓ rfl dX1_overlap_57) (xn_int _) ⟨_, rfl, e⟩
          · rw [if_neg c] at e
            refine xw_ild (show xm_Imp g Γ 58 (xi_ild 3 59) from xs_iload_n hΓ dX1_overlap_58) rfl ?_
            refine xw_ild (show xm_Imp g Γ 59 (xi_ild 6 61) from xs_iload hΓ dX1_overlap_59) rfl ?_
            refine xw_ii (show xm_Imp g Γ 61 (xi_ii (fun x y => x + y) 62) from xs_iadd hΓ dX1_overlap_61) ?_
            refine xw_ist (ls' := [some (.ref l0), none, some (va_rf l2), some (.int (s.1 + v32)), some (va_rf l4), some (va_rf v27.1), some (.int v32)]) (show xm_Imp g Γ 62 (xi_ist 3 63) from xs_istore_n hΓ dX1_overlap_62 (Nat.le_of_ble_eq_true rfl)) ((xm_s1_o (o := l2) rfl).trans rfl) ?_
            refine xw_goto (show xm_Imp g Γ 63 (xi_goto 20) from xs_goto hΓ dX1_overlap_63 (by decide)) ?_
            have hq := hk20 _ e; exact xm_lx (hq) (And.intro rfl (And.intro rfl (And.intro rfl (And.intro rfl (trivial)))))
        rw [if_neg cc1] at e
        exact e.elim
    rw [if_neg cc0] at e
    by_cases cc1 : c14 = 16
    · rw [if_pos cc1] at e
      obtain ⟨v33, e1, e⟩ := e
      refine xw_hv0 (o := l4) (xm_or2 (show xm_Imp g Γ 22 (xi_or (xi_vir g 10 M_X12_hasNext 1 0 27) (xi_vir g 16 M_J23_hasNext 1 0 27)) from xs_or (xs_invF hG hΓ k_X12_hasNext rfl (ci := 10) rfl q1655 q1401 q1399 ⟨by decide, by decide⟩ (by decide +kernel) q1397 q1396 q1402 q1400 q1398 dX1_overlap_22) (xs_invF hG hΓ k_J23_hasNext rfl (ci := 16) rfl q1655 q1407 q1405 ⟨by decide, by decide⟩ (by decide +kernel) q1397 q1396 q1408 q1406 q1404 dX1_overlap_22))) (by simp [xm_stk, xv_cat, xc_int, xc_long, xc_float, xc_double, xc_ref]) ha13 (xh_is_of e0 cc1) (fun Q X hQ => K_J23_hasNext hG a13 _ e1 hQ) ?_
      refine xw_if (show xm_Imp g Γ 27 (xi_if (fun x => x = 0) 66 30) from xs_if_eq hΓ dX1_overlap_27 (by decide)) (fun c => ?_) (fun c => ?_)
      · rw [if_pos c] at e
        refine xw_ald (show xm_Imp g Γ 66 (xi_ald 0 67) from xs_aload_n hΓ dX1_overlap_66) rfl ?_
        obtain ⟨_, e0, e⟩ := e
        obtain ⟨v34, e1, e⟩ := e
        refine xw_hv0 (o := (some l0)) (show xm_Imp g Γ 67 (xi_vir g 0 M_X1_qubits 1 0 70) from xs_invV hG hΓ k_X1_qubits rfl (ci := 0) rfl q1139 q1141 qs20 dX1_overlap_67) rfl rfl e0 (fun Q X hQ => K_X1_qubits hG l0 _ e1 hQ) ?_
        refine xw_ild (show xm_Imp g Γ 70 (xi_ild 3 71) from xs_iload_n hΓ dX1_overlap_70) rfl ?_
        refine xw_sv1 (show xm_Imp g Γ 71 (xi_inv g M_J17_numberOfTrailingZeros 1 1 74) from xs_invS hG hΓ k_J17_numberOfTrailingZeros rfl q1680 q1569 dX1_overlap_71) rfl (fun Q X hQ => K_J17_numberOfTrailingZeros hG s.1 rfl hQ) ?_
        refine xw_ii (show xm_Imp g Γ 74 (xi_ii (fun x y => x - y) 75) from xs_isub hΓ dX1_overlap_74) ?_
        exact xw_iret (show xm_Imp g Γ 75 (xi_iret .int _) from xs_ireturn hΓ rfl dX1_overlap_75) (xn_int _) ⟨_, rfl, e⟩
      · rw [if_neg c] at e
        refine xw_aldo (x := l4) (show xm_Imp g Γ 30 (xi_ald 4 32) from xs_aload hΓ dX1_overlap_30) rfl ?_
        obtain ⟨c35, e0, e⟩ := e
        by_cases cc0 : c35 = 10
        · rw [if_pos cc0] at e
          obtain ⟨m36, m37, ⟨em1, em2⟩, e⟩ := e
          refine xw_tvr0 (o := l4) (xm_or1 (show xm_Imp g Γ 32 (xi_or (xi_vir g 10 M_X12_next 9 0 37) (xi_vir g 16 M_J23_next 9 0 37)) from xs_or (xs_invF hG hΓ k_X12_next rfl (ci := 10) rfl q1657 q1416 q1414 ⟨by decide, by decide⟩ (by decide +kernel) q1413 q1412 q1417 q1415 q1398 dX1_overlap_32) (xs_invF hG hΓ k_J23_next rfl (ci := 16) rfl q1657 q1448 q1446 ⟨by decide, by decide⟩ (by decide +kernel) q1413 q1412 q1449 q1447 q1404 dX1_overlap_32))) (by simp [xm_stk, xv_cat, xc_int, xc_long, xc_float, xc_double, xc_ref]) ha13 (xh_is_of e0 cc0) em1 em2 (K_X12_next hG a13 _ _ _ e) (fun v39 h38 e => ?_)
          obtain ⟨_, e1, e⟩ := e
          refine xw_cast (o := v39) (show xm_Imp g Γ 37 (xi_cast "StringTableau$Row" 40) from xs_cast hG hΓ (xm_in 3 rfl) q1658 dX1_overlap_37) e1 ?_
          refine xw_asto (x := v39) (ls' := [some (.ref l0), none, some (va_rf l2), some (.int s.1), some (va_rf l4), some (va_rf v39), none]) (show xm_Imp g Γ 40 (xi_ast 5 42) from xs_astore hΓ dX1_overlap_40 (Nat.le_of_ble_eq_true rfl)) ((xm_s1_o (o := l4) rfl).trans rfl) ?_
          refine xw_aldo (x := l2) (show xm_Imp g Γ 42 (xi_ald 2 43) from xs_aload_n hΓ dX1_overlap_42) rfl ?_
          refine xw_aldo (x := v39) (show xm_Imp g Γ 43 (xi_ald 5 45) from xs_aload hΓ dX1_overlap_43) rfl ?_
          obtain ⟨a40, ha40, e⟩ := e
          obtain ⟨_, e0, e⟩ := e
          obtain ⟨m41, m42, ⟨em1, em2⟩, e⟩ := e
          refine xw_tvi1 (o := l2) (show xm_Imp g Γ 45 (xi_vir g 2 M_X3_contains 6 1 48) from xs_invV hG hΓ k_X3_contains rfl (ci := 2) rfl q2764 q1216 q1217 dX1_overlap_45) (by simp [xm_stk, xv_cat, xc_int, xc_long, xc_float, xc_double, xc_ref]) ha40 e0 em1 em2 (K_X3_contains hG a40 v39 _ _ _ e) (fun v44 h43 e => ?_)
          refine xw_ist (ls' := [some (.ref l0), none, some (va_rf l2), some (.int s.1), some (va_rf l4), some (va_rf v39), some (.int v44)]) (show xm_Imp g Γ 48 (xi_ist 6 50) from xs_istore hΓ dX1_overlap_48 (Nat.le_of_ble_eq_true rfl)) ((xm_s1_o (o := v39) rfl).trans rfl) ?_
          refine xw_ild (show xm_Imp g Γ 50 (xi_ild 6 52) from xs_iload hΓ dX1_overlap_50) rfl ?_
          refine xw_psh (v := (.int (-1))) (show xm_Imp g Γ 52 (xi_psh (.int (-1)) 53) from xs_iconst hΓ dX1_overlap_52 (by decide)) ?_
          refine xw_ic (show xm_Imp g Γ 53 (xi_ic (fun x y => x = y) 56 58) from xs_icmp_ne hΓ dX1_overlap_53 (by decide)) (fun c => ?_) (fun c => ?_)
          · rw [if_pos c] at e
            refine xw_psh (v := (.int (-1))) (show xm_Imp g Γ 56 (xi_psh (.int (-1)) 57) from xs_iconst hΓ dX1_overlap_56 (by decide)) ?_
            exact xw_iret (show xm_Imp g Γ 57 (xi_iret .int _) from xs_ireturn hΓ rfl dX1_overlap_57) (xn_int _) ⟨_, rfl, e⟩
          · rw [if_neg c] at e
            refine xw_ild (show xm_Imp g Γ 58 (xi_ild 3 59) from xs_iload_n hΓ dX1_overlap_58) rfl ?_
            refine xw_ild (show xm_Imp g Γ 59 (xi_ild 6 61) from xs_iload hΓ dX1_overlap_59) rfl ?_
            refine xw_ii (show xm_Imp g Γ 61 (xi_ii (fun x y => x + y) 62) from xs_iadd hΓ dX1_overlap_61) ?_
            refine xw_ist (ls' := [some (.ref l0), none, some (va_rf l2), some (.int (s.1 + v44)), some (va_rf l4), some (va_rf v39), some (.int v44)]) (show xm_Imp g Γ 62 (xi_ist 3 63) from xs_istore_n hΓ dX1_overlap_62 (Nat.le_of_ble_eq_true rfl)) ((xm_s1_o (o := l2) rfl).trans rfl) ?_
            refine xw_goto (show xm_Imp g Γ 63 (xi_goto 20) from xs_goto hΓ dX1_overlap_63 (by decide)) ?_
            have hq := hk20 _ e; exact xm_lx (hq) (And.intro rfl (And.intro rfl (And.intro rfl (And.intro rfl (trivial)))))
        rw [if_neg cc0] at e
        by_cases cc1 : c35 = 16
        · rw [if_pos cc1] at e
          obtain ⟨v45, e1, e⟩ := e
          refine xw_hv0 (o := l4) (xm_or2 (show xm_Imp g Γ 32 (xi_or (xi_vir g 10 M_X12_next 9 0 37) (xi_vir g 16 M_J23_next 9 0 37)) from xs_or (xs_invF hG hΓ k_X12_next rfl (ci := 10) rfl q1657 q1416 q1414 ⟨by decide, by decide⟩ (by decide +kernel) q1413 q1412 q1417 q1415 q1398 dX1_overlap_32) (xs_invF hG hΓ k_J23_next rfl (ci := 16) rfl q1657 q1448 q1446 ⟨by decide, by decide⟩ (by decide +kernel) q1413 q1412 q1449 q1447 q1404 dX1_overlap_32))) (by simp [xm_stk, xv_cat, xc_int, xc_long, xc_float, xc_double, xc_ref]) ha13 (xh_is_of e0 cc1) (fun Q X hQ => K_J23_next hG a13 _ e1 hQ) ?_
          obtain ⟨_, e1, e⟩ := e
          refine xw_cast (o := v45.1) (show xm_Imp g Γ 37 (xi_cast "StringTableau$Row" 40) from xs_cast hG hΓ (xm_in 3 rfl) q1658 dX1_overlap_37) e1 ?_
          refine xw_asto (x := v45.1) (ls' := [some (.ref l0), none, some (va_rf l2), some (.int s.1), some (va_rf l4), some (va_rf v45.1), none]) (show xm_Imp g Γ 40 (xi_ast 5 42) from xs_astore hΓ dX1_overlap_40 (Nat.le_of_ble_eq_true rfl)) ((xm_s1_o (o := l4) rfl).trans rfl) ?_
          refine xw_aldo (x := l2) (show xm_Imp g Γ 42 (xi_ald 2 43) from xs_aload_n hΓ dX1_overlap_42) rfl ?_
          refine xw_aldo (x := v45.1) (show xm_Imp g Γ 43 (xi_ald 5 45) from xs_aload hΓ dX1_overlap_43) rfl ?_
          obtain ⟨a46, ha46, e⟩ := e
          obtain ⟨_, e0, e⟩ := e
          obtain ⟨m47, m48, ⟨em1, em2⟩, e⟩ := e
          refine xw_tvi1 (o := l2) (show xm_Imp g Γ 45 (xi_vir g 2 M_X3_contains 6 1 48) from xs_invV hG hΓ k_X3_contains rfl (ci := 2) rfl q2764 q1216 q1217 dX1_overlap_45) (by simp [xm_stk, xv_cat, xc_int, xc_long, xc_float, xc_double, xc_ref]) ha46 e0 em1 em2 (K_X3_contains hG a46 v45.1 _ _ _ e) (fun v50 h49 e => ?_)
          refine xw_ist (ls' := [some (.ref l0), none, some (va_rf l2), some (.int s.1), some (va_rf l4), some (va_rf v45.1), some (.int v50)]) (show xm_Imp g Γ 48 (xi_ist 6 50) from xs_istore hΓ dX1_overlap_48 (Nat.le_of_ble_eq_true rfl)) ((xm_s1_o (o := v45.1) rfl).trans rfl) ?_
          refine xw_ild (show xm_Imp g Γ 50 (xi_ild 6 52) from xs_iload hΓ dX1_overlap_50) rfl ?_
          refine xw_psh (v := (.int (-1))) (show xm_Imp g Γ 52 (xi_psh (.int (-1)) 53) from xs_iconst hΓ dX1_overlap_52 (by decide)) ?_
          refine xw_ic (show xm_Imp g Γ 53 (xi_ic (fun x y => x = y) 56 58) from xs_icmp_ne hΓ dX1_overlap_53 (by decide)) (fun c => ?_) (fun c => ?_)
          · rw [if_pos c] at e
            refine xw_psh (v := (.int (-1))) (show xm_Imp g Γ 56 (xi_psh (.int (-1)) 57) from xs_iconst hΓ dX1_overlap_56 (by decide)) ?_
            exact xw_iret (show xm_Imp g Γ 57 (xi_iret .int _) from xs_ireturn hΓ rfl dX1_overlap_57) (xn_int _) ⟨_, rfl, e⟩
          · rw [if_neg c] at e
            refine xw_ild (show xm_Imp g Γ 58 (xi_ild 3 59) from xs_iload_n hΓ dX1_overlap_58) rfl ?_
            refine xw_ild (show xm_Imp g Γ 59 (xi_ild 6 61) from xs_iload hΓ dX1_overlap_59) rfl ?_
            refine xw_ii (show xm_Imp g Γ 61 (xi_ii (fun x y => x + y) 62) from xs_iadd hΓ dX1_overlap_61) ?_
            refine xw_ist (ls' := [some (.ref l0), none, some (va_rf l2), some (.int (s.1 + v50)), some (va_rf l4), some (va_rf v45.1), some (.int v50)]) (show xm_Imp g Γ 62 (xi_ist 3 63) from xs_istore_n hΓ dX1_overlap_62 (Nat.le_of_ble_eq_true rfl)) ((xm_s1_o (o := l2) rfl).trans rfl) ?_
            refine xw_goto (show xm_Imp g Γ 63 (xi_goto 20) from xs_goto hΓ dX1_overlap_63 (by decide)) ?_
            have hq := hk20 _ e; exact xm_lx (hq) (And.intro rfl (And.intro rfl (And.intro rfl (And.intro rfl (trivial)))))
        rw [if_neg cc1] at e
        exact e.elim
    rw [if_neg cc1] at e
    exact e.elim
  unfold F_X1_overlap at e
  refine xw_ald (show xm_Imp g Γ 0 (xi_ald 0 1) from xs_aload_n hΓ dX1_overlap_0) rfl ?_
  refine xw_ild (show xm_Imp g Γ 1 (xi_ild 1 2) from xs_iload_n hΓ dX1_overlap_1) rfl ?_
  obtain ⟨_, e0, e⟩ := e
  obtain ⟨m1, m2, ⟨em1, em2⟩, e⟩ := e
  refine xw_tXvr1 (o := (some p0)) (show xm_Imp g Γ 2 (xi_virX g 0 M_X1_kept 9 1 5 X) from xs_invVX hG hΓ k_X1_kept rfl rfl (ci := 0) rfl q1944 q1946 qs39 dX1_overlap_2) rfl rfl e0 em1 em2 (K_X1_kept hG p0 p1 _ _ _ e) (fun v4 h3 e => ?_)
  refine xw_asto (x := v4) (ls' := [some (.ref p0), some (.int p1), some (va_rf v4), none, none, none, none]) (show xm_Imp g Γ 5 (xi_ast 2 6) from xs_astore_n hΓ dX1_overlap_5 (Nat.le_of_ble_eq_true rfl)) rfl ?_
  refine xw_psh (v := (.int (0))) (show xm_Imp g Γ 6 (xi_psh (.int (0)) 7) from xs_iconst hΓ dX1_overlap_6 (by decide)) ?_
  refine xw_ist (ls' := [some (.ref p0), some (.int p1), some (va_rf v4), some (.int 0), none, none, none]) (show xm_Imp g Γ 7 (xi_ist 3 8) from xs_istore_n hΓ dX1_overlap_7 (Nat.le_of_ble_eq_true rfl)) ((xm_s1_o (o := v4) rfl).trans rfl) ?_
  refine xw_ald (show xm_Imp g Γ 8 (xi_ald 0 9) from xs_aload_n hΓ dX1_overlap_8) rfl ?_
  obtain ⟨v5, e1, e⟩ := e
  refine xw_gr1 (o := (some p0)) (show xm_Imp g Γ 9 (xi_get 0 0 12) from xs_get hG hΓ (ci := 0) (kf := 0) rfl (Nat.le_of_ble_eq_true rfl) q343 dX1_overlap_9) rfl e1 ?_
  obtain ⟨a6, ha6, e⟩ := e
  obtain ⟨v7, e1, e⟩ := e
  refine xw_gr1 (o := v5) (show xm_Imp g Γ 12 (xi_get 1 0 15) from xs_getN hG hΓ (ci := 1) (kf := 0) rfl (Nat.le_of_ble_eq_true rfl) q276 dX1_overlap_12) ha6 e1 ?_
  obtain ⟨a8, ha8, e⟩ := e
  obtain ⟨_, e0, e⟩ := e
  obtain ⟨m9, m10, ⟨em1, em2⟩, e⟩ := e
  refine xw_tvr0 (o := v7) (show xm_Imp g Γ 15 (xi_vir g 2 M_X3_iterator 3 0 18) from xs_invV hG hΓ k_X3_iterator rfl (ci := 2) rfl q1637 q1638 q1639 dX1_overlap_15) (by simp [xm_stk, xv_cat, xc_int, xc_long, xc_float, xc_double, xc_ref]) ha8 e0 em1 em2 (K_X3_iterator hG a8 _ _ _ e) (fun v12 h11 e => ?_)
  refine xw_asto (x := v12) (ls' := [some (.ref p0), some (.int p1), some (va_rf v4), some (.int 0), some (va_rf v12), none, none]) (show xm_Imp g Γ 18 (xi_ast 4 20) from xs_astore hΓ dX1_overlap_18 (Nat.le_of_ble_eq_true rfl)) rfl ?_
  exact xm_lx (hL_20 _ _ _ _ e) (And.intro rfl (And.intro rfl (And.intro rfl (And.intro rfl (trivial)))))
noncomputable def B_X1_agreeing_55 (g : xm_G) (l2 : Option Nat) (l3 : Int32) (l4 : Option Nat) (h : xm_H) (bc : Nat) (bs : Nat) (k20 : Int32 × xm_H × Nat × Nat → Prop) (Q : Int32 → xm_H → Prop) (X : xm_X) : Prop :=
 k20 (l3, h, bc, bs)
noncomputable def D_X1_agreeing_20 (g : xm_G) (l2 : Option Nat) (l4 : Option Nat) (Q : Int32 → xm_H → Prop) (X : xm_X) (k20 : Int32 × xm_H × Nat × Nat → Prop) (s : Int32 × xm_H × Nat × Nat) : Prop :=
 xt_b l4 (fun a13 =>
 xt_b (xh_ci s.2.1 a13) (fun c14 =>
 (if c14 = 10 then
 xt_b (F_X12_hasNext g a13 s.2.1) (fun v15 =>
 (if v15 = 0 then
 Q s.1 s.2.1 else
 xt_b (xh_ci s.2.1 a13) (fun c16 =>
 (if c16 = 10 then
 xt_c s.2.2.1 s.2.2.2 (fun m17 m18 => F_X12_next g a13 s.2.1 m17 m18 (fun v20 h19 =>
 xt_b (xh_cast "StringTableau$Row" h19 v20) (fun _ =>
 xt_b l2 (fun a21 =>
 xt_b (xh_is 2 h19 a21) (fun _ =>
 xt_c (s.2.2.1 - m17) (s.2.2.2 - m18) (fun m22 m23 => F_X3_contains g a21 v20 h19 m22 m23 (fun v25 h24 =>
 B_X1_agreeing_55 g l2 (if v25 = (1 : Int32) then s.1 + 1 else s.1) l4 h24 ((s.2.2.1 - m17) - m22) ((s.2.2.2 - m18) - m23) k20 Q X))))))) else
 (if c16 = 16 then
 xt_b (F_J23_next g a13 s.2.1) (fun v26 =>
 xt_b (xh_cast "StringTableau$Row" v26.2 v26.1) (fun _ =>
 xt_b l2 (fun a27 =>
 xt_b (xh_is 2 v26.2 a27) (fun _ =>
 xt_c s.2.2.1 s.2.2.2 (fun m28 m29 => F_X3_contains g a27 v26.1 v26.2 m28 m29 (fun v31 h30 =>
 B_X1_agreeing_55 g l2 (if v31 = (1 : Int32) then s.1 + 1 else s.1) l4 h30 (s.2.2.1 - m28) (s.2.2.2 - m29) k20 Q X)))))) else
 False))))) else
 (if c14 = 16 then
 xt_b (F_J23_hasNext g a13 s.2.1) (fun v32 =>
 (if v32 = 0 then
 Q s.1 s.2.1 else
 xt_b (xh_ci s.2.1 a13) (fun c33 =>
 (if c33 = 10 then
 xt_c s.2.2.1 s.2.2.2 (fun m34 m35 => F_X12_next g a13 s.2.1 m34 m35 (fun v37 h36 =>
 xt_b (xh_cast "StringTableau$Row" h36 v37) (fun _ =>
 xt_b l2 (fun a38 =>
 xt_b (xh_is 2 h36 a38) (fun _ =>
 xt_c (s.2.2.1 - m34) (s.2.2.2 - m35) (fun m39 m40 => F_X3_contains g a38 v37 h36 m39 m40 (fun v42 h41 =>
 B_X1_agreeing_55 g l2 (if v42 = (1 : Int32) then s.1 + 1 else s.1) l4 h41 ((s.2.2.1 - m34) - m39) ((s.2.2.2 - m35) - m40) k20 Q X))))))) else
 (if c33 = 16 then
 xt_b (F_J23_next g a13 s.2.1) (fun v43 =>
 xt_b (xh_cast "StringTableau$Row" v43.2 v43.1) (fun _ =>
 xt_b l2 (fun a44 =>
 xt_b (xh_is 2 v43.2 a44) (fun _ =>
 xt_c s.2.2.1 s.2.2.2 (fun m45 m46 => F_X3_contains g a44 v43.1 v43.2 m45 m46 (fun v48 h47 =>
 B_X1_agreeing_55 g l2 (if v48 = (1 : Int32) then s.1 + 1 else s.1) l4 h47 (s.2.2.1 - m45) (s.2.2.2 - m46) k20 Q X)))))) else
 False))))) else
 False))))
noncomputable def L_X1_agreeing_20 (g : xm_G) (l2 : Option Nat) (l4 : Option Nat) (Q : Int32 → xm_H → Prop) (X : xm_X) (s : Int32 × xm_H × Nat × Nat) : Prop := xt_loop (D_X1_agreeing_20 g l2 l4 Q X) s
noncomputable def F_X1_agreeing (g : xm_G) (p0 : Nat) (p1 : Int32) (h : xm_H) (bc : Nat) (bs : Nat) (Q : Int32 → xm_H → Prop) (X : xm_X) : Prop :=
 xt_b (xh_is 0 h p0) (fun _ =>
 xt_c bc bs (fun m1 m2 => F_X1_kept g p0 p1 h m1 m2 (fun v4 h3 =>
 xt_b (xh_fr [(0, 0)] h3 p0) (fun v5 =>
 xt_b v5 (fun a6 =>
 xt_b (xh_fr [(1, 0)] h3 a6) (fun v7 =>
 xt_b v7 (fun a8 =>
 xt_b (xh_is 2 h3 a8) (fun _ =>
 xt_c (bc - m1) (bs - m2) (fun m9 m10 => F_X3_iterator g a8 h3 m9 m10 (fun v12 h11 =>
 L_X1_agreeing_20 g v4 v12 Q X (0, h11, ((bc - m1) - m9), ((bs - m2) - m10)))))))))) X))
set_option maxHeartbeats 4000000 in
theorem K_X1_agreeing {g : xm_G} (hG : xm_Gw g) (p0 : Nat) (p1 : Int32) (h : xm_H) (bc : Nat) (bs : Nat) {Q : Int32 → xm_H → Prop} {X : xm_X} (e : F_X1_agreeing g p0 p1 h bc bs Q X) : xm_Run g M_X1_agreeing 10 [.ref p0, .int p1] h bc bs (fun v h' => ∃ r, v = some (.int r) ∧ Q r h') X := by
  refine xm_Run.of pn_StringTableau (Nat.le_of_ble_eq_true rfl) (fun Γ hΓ => ?_)
  show xm_W g Γ 0 [some (.ref p0), some (.int p1), none, none, none, none] [] h bc bs
  have hL_20 : ∀ (l2 : Option Nat) (l4 : Option Nat) (s : Int32 × xm_H × Nat × Nat), L_X1_agreeing_20 g l2 l4 Q X s → xm_W g Γ 20 [none, none, some (va_rf l2), some (.int s.1), some (va_rf l4), none] [] s.2.1 s.2.2.1 s.2.2.2 := by
    intro l2 l4
    refine xt_rule (WS := fun s : Int32 × xm_H × Nat × Nat => xm_W g Γ 20 [none, none, some (va_rf l2), some (.int s.1), some (va_rf l4), none] [] s.2.1 s.2.2.1 s.2.2.2) ?_
    intro k20 hk20 s e
    have hB_55 : ∀ (l3 : Int32) (h : xm_H) (bc : Nat) (bs : Nat), B_X1_agreeing_55 g l2 l3 l4 h bc bs k20 Q X → xm_W g Γ 55 [none, none, some (va_rf l2), some (.int l3), some (va_rf l4), none] [] h bc bs := by
      intro l3 h bc bs e
      unfold B_X1_agreeing_55 at e
      refine xw_goto (show xm_Imp g Γ 55 (xi_goto 20) from xs_goto hΓ dX1_agreeing_55 (by decide)) ?_
      have hq := hk20 _ e; exact hq
    unfold D_X1_agreeing_20 at e
    refine xw_aldo (x := l4) (show xm_Imp g Γ 20 (xi_ald 4 22) from xs_aload hΓ dX1_agreeing_20) rfl ?_
    obtain ⟨a13, ha13, e⟩ := e
    obtain ⟨c14, e0, e⟩ := e
    by_cases cc0 : c14 = 10
    · rw [if_pos cc0] at e
      obtain ⟨v15, e1, e⟩ := e
      refine xw_hv0 (o := l4) (xm_or1 (show xm_Imp g Γ 22 (xi_or (xi_vir g 10 M_X12_hasNext 1 0 27) (xi_vir g 16 M_J23_hasNext 1 0 27)) from xs_or (xs_invF hG hΓ k_X12_hasNext rfl (ci := 10) rfl q1655 q1401 q1399 ⟨by decide, by decide⟩ (by decide +kernel) q1397 q1396 q1402 q1400 q1398 dX1_agreeing_22) (xs_invF hG hΓ k_J23_hasNext rfl (ci := 16) rfl q1655 q1407 q1405 ⟨by decide, by decide⟩ (by decide +kernel) q1397 q1396 q1408 q1406 q1404 dX1_agreeing_22))) (by simp [xm_stk, xv_cat, xc_int, xc_long, xc_float, xc_double, xc_ref]) ha13 (xh_is_of e0 cc0) (fun Q X hQ => K_X12_hasNext hG a13 _ e1 hQ) ?_
      refine xw_if (show xm_Imp g Γ 27 (xi_if (fun x => x = 0) 58 30) from xs_if_eq hΓ dX1_agreeing_27 (by decide)) (fun c => ?_) (fun c => ?_)
      · rw [if_pos c] at e
        refine xw_ild (show xm_Imp g Γ 58 (xi_ild 3 59) from xs_iload_n hΓ dX1_agreeing_58) rfl ?_
        exact xw_iret (show xm_Imp g Γ 59 (xi_iret .int _) from xs_ireturn hΓ rfl dX1_agreeing_59) (xn_int _) ⟨_, rfl, e⟩
      · rw [if_neg c] at e
        refine xw_aldo (x := l4) (show xm_Imp g Γ 30 (xi_ald 4 32) from xs_aload hΓ dX1_agreeing_30) rfl ?_
        obtain ⟨c16, e0, e⟩ := e
        by_cases cc0 : c16 = 10
        · rw [if_pos cc0] at e
          obtain ⟨m17, m18, ⟨em1, em2⟩, e⟩ := e
          refine xw_tvr0 (o := l4) (xm_or1 (show xm_Imp g Γ 32 (xi_or (xi_vir g 10 M_X12_next 9 0 37) (xi_vir g 16 M_J23_next 9 0 37)) from xs_or (xs_invF hG hΓ k_X12_next rfl (ci := 10) rfl q1657 q1416 q1414 ⟨by decide, by decide⟩ (by decide +kernel) q1413 q1412 q1417 q1415 q1398 dX1_agreeing_32) (xs_invF hG hΓ k_J23_next rfl (ci := 16) rfl q1657 q1448 q1446 ⟨by decide, by decide⟩ (by decide +kernel) q1413 q1412 q1449 q1447 q1404 dX1_agreeing_32))) (by simp [xm_stk, xv_cat, xc_int, xc_long, xc_float, xc_double, xc_ref]) ha13 (xh_is_of e0 cc0) em1 em2 (K_X12_next hG a13 _ _ _ e) (fun v20 h19 e => ?_)
          obtain ⟨_, e1, e⟩ := e
          refine xw_cast (o := v20) (show xm_Imp g Γ 37 (xi_cast "StringTableau$Row" 40) from xs_cast hG hΓ (xm_in 3 rfl) q1658 dX1_agreeing_37) e1 ?_
          refine xw_asto (x := v20) (ls' := [none, none, some (va_rf l2), some (.int s.1), some (va_rf l4), some (va_rf v20)]) (show xm_Imp g Γ 40 (xi_ast 5 42) from xs_astore hΓ dX1_agreeing_40 (Nat.le_of_ble_eq_true rfl)) ((xm_s1_o (o := l4) rfl).trans rfl) ?_
          refine xw_aldo (x := l2) (show xm_Imp g Γ 42 (xi_ald 2 43) from xs_aload_n hΓ dX1_agreeing_42) rfl ?_
          refine xw_aldo (x := v20) (show xm_Imp g Γ 43 (xi_ald 5 45) from xs_aload hΓ dX1_agreeing_43) rfl ?_
          obtain ⟨a21, ha21, e⟩ := e
          obtain ⟨_, e0, e⟩ := e
          obtain ⟨m22, m23, ⟨em1, em2⟩, e⟩ := e
          refine xw_tvi1 (o := l2) (show xm_Imp g Γ 45 (xi_vir g 2 M_X3_contains 6 1 48) from xs_invV hG hΓ k_X3_contains rfl (ci := 2) rfl q2764 q1216 q1217 dX1_agreeing_45) (by simp [xm_stk, xv_cat, xc_int, xc_long, xc_float, xc_double, xc_ref]) ha21 e0 em1 em2 (K_X3_contains hG a21 v20 _ _ _ e) (fun v25 h24 e => ?_)
          refine xw_psh (v := (.int (1))) (show xm_Imp g Γ 48 (xi_psh (.int (1)) 49) from xs_iconst hΓ dX1_agreeing_48 (by decide)) ?_
          refine xw_ic (show xm_Imp g Γ 49 (xi_ic (fun x y => x = y) 52 55) from xs_icmp_ne hΓ dX1_agreeing_49 (by decide)) (fun c => ?_) (fun c => ?_)
          · rw [if_pos c] at e
            refine xw_inc (v := (1)) (ls' := [none, none, some (va_rf l2), some (.int (s.1 + 1)), some (va_rf l4), some (va_rf v20)]) (show xm_Imp g Γ 52 (xi_inc 3 (1) 55) from xs_iinc hΓ dX1_agreeing_52 (by decide) (Nat.le_of_ble_eq_true rfl)) rfl ((xm_s1_o (o := l2) rfl).trans rfl) ?_
            exact xm_lx (hB_55 _ _ _ _ e) (And.intro rfl (And.intro rfl (And.intro rfl (trivial))))
          · rw [if_neg c] at e
            exact xm_lx (hB_55 _ _ _ _ e) (And.intro rfl (And.intro rfl (And.intro rfl (trivial))))
        rw [if_neg cc0] at e
        by_cases cc1 : c16 = 16
        · rw [if_pos cc1] at e
          obtain ⟨v26, e1, e⟩ := e
          refine xw_hv0 (o := l4) (xm_or2 (show xm_Imp g Γ 32 (xi_or (xi_vir g 10 M_X12_next 9 0 37) (xi_vir g 16 M_J23_next 9 0 37)) from xs_or (xs_invF hG hΓ k_X12_next rfl (ci := 10) rfl q1657 q1416 q1414 ⟨by decide, by decide⟩ (by decide +kernel) q1413 q1412 q1417 q1415 q1398 dX1_agreeing_32) (xs_invF hG hΓ k_J23_next rfl (ci := 16) rfl q1657 q1448 q1446 ⟨by decide, by decide⟩ (by decide +kernel) q1413 q1412 q1449 q1447 q1404 dX1_agreeing_32))) (by simp [xm_stk, xv_cat, xc_int, xc_long, xc_float, xc_double, xc_ref]) ha13 (xh_is_of e0 cc1) (fun Q X hQ => K_J23_next hG a13 _ e1 hQ) ?_
          obtain ⟨_, e1, e⟩ := e
          refine xw_cast (o := v26.1) (show xm_Imp g Γ 37 (xi_cast "StringTableau$Row" 40) from xs_cast hG hΓ (xm_in 3 rfl) q1658 dX1_agreeing_37) e1 ?_
          refine xw_asto (x := v26.1) (ls' := [none, none, some (va_rf l2), some (.int s.1), some (va_rf l4), some (va_rf v26.1)]) (show xm_Imp g Γ 40 (xi_ast 5 42) from xs_astore hΓ dX1_agreeing_40 (Nat.le_of_ble_eq_true rfl)) ((xm_s1_o (o := l4) rfl).trans rfl) ?_
          refine xw_aldo (x := l2) (show xm_Imp g Γ 42 (xi_ald 2 43) from xs_aload_n hΓ dX1_agreeing_42) rfl ?_
          refine xw_aldo (x := v26.1) (show xm_Imp g Γ 43 (xi_ald 5 45) from xs_aload hΓ dX1_agreeing_43) rfl ?_
          obtain ⟨a27, ha27, e⟩ := e
          obtain ⟨_, e0, e⟩ := e
          obtain ⟨m28, m29, ⟨em1, em2⟩, e⟩ := e
          refine xw_tvi1 (o := l2) (show xm_Imp g Γ 45 (xi_vir g 2 M_X3_contains 6 1 48) from xs_invV hG hΓ k_X3_contains rfl (ci := 2) rfl q2764 q1216 q1217 dX1_agreeing_45) (by simp [xm_stk, xv_cat, xc_int, xc_long, xc_float, xc_double, xc_ref]) ha27 e0 em1 em2 (K_X3_contains hG a27 v26.1 _ _ _ e) (fun v31 h30 e => ?_)
          refine xw_psh (v := (.int (1))) (show xm_Imp g Γ 48 (xi_psh (.int (1)) 49) from xs_iconst hΓ dX1_agreeing_48 (by decide)) ?_
          refine xw_ic (show xm_Imp g Γ 49 (xi_ic (fun x y => x = y) 52 55) from xs_icmp_ne hΓ dX1_agreeing_49 (by decide)) (fun c => ?_) (fun c => ?_)
          · rw [if_pos c] at e
            refine xw_inc (v := (1)) (ls' := [none, none, some (va_rf l2), some (.int (s.1 + 1)), some (va_rf l4), some (va_rf v26.1)]) (show xm_Imp g Γ 52 (xi_inc 3 (1) 55) from xs_iinc hΓ dX1_agreeing_52 (by decide) (Nat.le_of_ble_eq_true rfl)) rfl ((xm_s1_o (o := l2) rfl).trans rfl) ?_
            exact xm_lx (hB_55 _ _ _ _ e) (And.intro rfl (And.intro rfl (And.intro rfl (trivial))))
          · rw [if_neg c] at e
            exact xm_lx (hB_55 _ _ _ _ e) (And.intro rfl (And.intro rfl (And.intro rfl (trivial))))
        rw [if_neg cc1] at e
        exact e.elim
    rw [if_neg cc0] at e
    by_cases cc1 : c14 = 16
    · rw [if_pos cc1] at e
      obtain ⟨v32, e1, e⟩ := e
      refine xw_hv0 (o := l4) (xm_or2 (show xm_Imp g Γ 22 (xi_or (xi_vir g 10 M_X12_hasNext 1 0 27) (xi_vir g 16 M_J23_hasNext 1 0 27)) from xs_or (xs_invF hG hΓ k_X12_hasNext rfl (ci := 10) rfl q1655 q1401 q1399 ⟨by decide, by decide⟩ (by decide +kernel) q1397 q1396 q1402 q1400 q1398 dX1_agreeing_22) (xs_invF hG hΓ k_J23_hasNext rfl (ci := 16) rfl q1655 q1407 q1405 ⟨by decide, by decide⟩ (by decide +kernel) q1397 q1396 q1408 q1406 q1404 dX1_agreeing_22))) (by simp [xm_stk, xv_cat, xc_int, xc_long, xc_float, xc_double, xc_ref]) ha13 (xh_is_of e0 cc1) (fun Q X hQ => K_J23_hasNext hG a13 _ e1 hQ) ?_
      refine xw_if (show xm_Imp g Γ 27 (xi_if (fun x => x = 0) 58 30) from xs_if_eq hΓ dX1_agreeing_27 (by decide)) (fun c => ?_) (fun c => ?_)
      · rw [if_pos c] at e
        refine xw_ild (show xm_Imp g Γ 58 (xi_ild 3 59) from xs_iload_n hΓ dX1_agreeing_58) rfl ?_
        exact xw_iret (show xm_Imp g Γ 59 (xi_iret .int _) from xs_ireturn hΓ rfl dX1_agreeing_59) (xn_int _) ⟨_, rfl, e⟩
      · rw [if_neg c] at e
        refine xw_aldo (x := l4) (show xm_Imp g Γ 30 (xi_ald 4 32) from xs_aload hΓ dX1_agreeing_30) rfl ?_
        obtain ⟨c33, e0, e⟩ := e
        by_cases cc0 : c33 = 10
        · rw [if_pos cc0] at e
          obtain ⟨m34, m35, ⟨em1, em2⟩, e⟩ := e
          refine xw_tvr0 (o := l4) (xm_or1 (show xm_Imp g Γ 32 (xi_or (xi_vir g 10 M_X12_next 9 0 37) (xi_vir g 16 M_J23_next 9 0 37)) from xs_or (xs_invF hG hΓ k_X12_next rfl (ci := 10) rfl q1657 q1416 q1414 ⟨by decide, by decide⟩ (by decide +kernel) q1413 q1412 q1417 q1415 q1398 dX1_agreeing_32) (xs_invF hG hΓ k_J23_next rfl (ci := 16) rfl q1657 q1448 q1446 ⟨by decide, by decide⟩ (by decide +kernel) q1413 q1412 q1449 q1447 q1404 dX1_agreeing_32))) (by simp [xm_stk, xv_cat, xc_int, xc_long, xc_float, xc_double, xc_ref]) ha13 (xh_is_of e0 cc0) em1 em2 (K_X12_next hG a13 _ _ _ e) (fun v37 h36 e => ?_)
          obtain ⟨_, e1, e⟩ := e
          refine xw_cast (o := v37) (show xm_Imp g Γ 37 (xi_cast "StringTableau$Row" 40) from xs_cast hG hΓ (xm_in 3 rfl) q1658 dX1_agreeing_37) e1 ?_
          refine xw_asto (x := v37) (ls' := [none, none, some (va_rf l2), some (.int s.1), some (va_rf l4), some (va_rf v37)]) (show xm_Imp g Γ 40 (xi_ast 5 42) from xs_astore hΓ dX1_agreeing_40 (Nat.le_of_ble_eq_true rfl)) ((xm_s1_o (o := l4) rfl).trans rfl) ?_
          refine xw_aldo (x := l2) (show xm_Imp g Γ 42 (xi_ald 2 43) from xs_aload_n hΓ dX1_agreeing_42) rfl ?_
          refine xw_aldo (x := v37) (show xm_Imp g Γ 43 (xi_ald 5 45) from xs_aload hΓ dX1_agreeing_43) rfl ?_
          obtain ⟨a38, ha38, e⟩ := e
          obtain ⟨_, e0, e⟩ := e
          obtain ⟨m39, m40, ⟨em1, em2⟩, e⟩ := e
          refine xw_tvi1 (o := l2) (show xm_Imp g Γ 45 (xi_vir g 2 M_X3_contains 6 1 48) from xs_invV hG hΓ k_X3_contains rfl (ci := 2) rfl q2764 q1216 q1217 dX1_agreeing_45) (by simp [xm_stk, xv_cat, xc_int, xc_long, xc_float, xc_double, xc_ref]) ha38 e0 em1 em2 (K_X3_contains hG a38 v37 _ _ _ e) (fun v42 h41 e => ?_)
          refine xw_psh (v := (.int (1))) (show xm_Imp g Γ 48 (xi_psh (.int (1)) 49) from xs_iconst hΓ dX1_agreeing_48 (by decide)) ?_
          refine xw_ic (show xm_Imp g Γ 49 (xi_ic (fun x y => x = y) 52 55) from xs_icmp_ne hΓ dX1_agreeing_49 (by decide)) (fun c => ?_) (fun c => ?_)
          · rw [if_pos c] at e
            refine xw_inc (v := (1)) (ls' := [none, none, some (va_rf l2), some (.int (s.1 + 1)), some (va_rf l4), some (va_rf v37)]) (show xm_Imp g Γ 52 (xi_inc 3 (1) 55) from xs_iinc hΓ dX1_agreeing_52 (by decide) (Nat.le_of_ble_eq_true rfl)) rfl ((xm_s1_o (o := l2) rfl).trans rfl) ?_
            exact xm_lx (hB_55 _ _ _ _ e) (And.intro rfl (And.intro rfl (And.intro rfl (trivial))))
          · rw [if_neg c] at e
            exact xm_lx (hB_55 _ _ _ _ e) (And.intro rfl (And.intro rfl (And.intro rfl (trivial))))
        rw [if_neg cc0] at e
        by_cases cc1 : c33 = 16
        · rw [if_pos cc1] at e
          obtain ⟨v43, e1, e⟩ := e
          refine xw_hv0 (o := l4) (xm_or2 (show xm_Imp g Γ 32 (xi_or (xi_vir g 10 M_X12_next 9 0 37) (xi_vir g 16 M_J23_next 9 0 37)) from xs_or (xs_invF hG hΓ k_X12_next rfl (ci := 10) rfl q1657 q1416 q1414 ⟨by decide, by decide⟩ (by decide +kernel) q1413 q1412 q1417 q1415 q1398 dX1_agreeing_32) (xs_invF hG hΓ k_J23_next rfl (ci := 16) rfl q1657 q1448 q1446 ⟨by decide, by decide⟩ (by decide +kernel) q1413 q1412 q1449 q1447 q1404 dX1_agreeing_32))) (by simp [xm_stk, xv_cat, xc_int, xc_long, xc_float, xc_double, xc_ref]) ha13 (xh_is_of e0 cc1) (fun Q X hQ => K_J23_next hG a13 _ e1 hQ) ?_
          obtain ⟨_, e1, e⟩ := e
          refine xw_cast (o := v43.1) (show xm_Imp g Γ 37 (xi_cast "StringTableau$Row" 40) from xs_cast hG hΓ (xm_in 3 rfl) q1658 dX1_agreeing_37) e1 ?_
          refine xw_asto (x := v43.1) (ls' := [none, none, some (va_rf l2), some (.int s.1), some (va_rf l4), some (va_rf v43.1)]) (show xm_Imp g Γ 40 (xi_ast 5 42) from xs_astore hΓ dX1_agreeing_40 (Nat.le_of_ble_eq_true rfl)) ((xm_s1_o (o := l4) rfl).trans rfl) ?_
          refine xw_aldo (x := l2) (show xm_Imp g Γ 42 (xi_ald 2 43) from xs_aload_n hΓ dX1_agreeing_42) rfl ?_
          refine xw_aldo (x := v43.1) (show xm_Imp g Γ 43 (xi_ald 5 45) from xs_aload hΓ dX1_agreeing_43) rfl ?_
          obtain ⟨a44, ha44, e⟩ := e
          obtain ⟨_, e0, e⟩ := e
          obtain ⟨m45, m46, ⟨em1, em2⟩, e⟩ := e
          refine xw_tvi1 (o := l2) (show xm_Imp g Γ 45 (xi_vir g 2 M_X3_contains 6 1 48) from xs_invV hG hΓ k_X3_contains rfl (ci := 2) rfl q2764 q1216 q1217 dX1_agreeing_45) (by simp [xm_stk, xv_cat, xc_int, xc_long, xc_float, xc_double, xc_ref]) ha44 e0 em1 em2 (K_X3_contains hG a44 v43.1 _ _ _ e) (fun v48 h47 e => ?_)
          refine xw_psh (v := (.int (1))) (show xm_Imp g Γ 48 (xi_psh (.int (1)) 49) from xs_iconst hΓ dX1_agreeing_48 (by decide)) ?_
          refine xw_ic (show xm_Imp g Γ 49 (xi_ic (fun x y => x = y) 52 55) from xs_icmp_ne hΓ dX1_agreeing_49 (by decide)) (fun c => ?_) (fun c => ?_)
          · rw [if_pos c] at e
            refine xw_inc (v := (1)) (ls' := [none, none, some (va_rf l2), some (.int (s.1 + 1)), some (va_rf l4), some (va_rf v43.1)]) (show xm_Imp g Γ 52 (xi_inc 3 (1) 55) from xs_iinc hΓ dX1_agreeing_52 (by decide) (Nat.le_of_ble_eq_true rfl)) rfl ((xm_s1_o (o := l2) rfl).trans rfl) ?_
            exact xm_lx (hB_55 _ _ _ _ e) (And.intro rfl (And.intro rfl (And.intro rfl (trivial))))
          · rw [if_neg c] at e
            exact xm_lx (hB_55 _ _ _ _ e) (And.intro rfl (And.intro rfl (And.intro rfl (trivial))))
        rw [if_neg cc1] at e
        exact e.elim
    rw [if_neg cc1] at e
    exact e.elim
  unfold F_X1_agreeing at e
  refine xw_ald (show xm_Imp g Γ 0 (xi_ald 0 1) from xs_aload_n hΓ dX1_agreeing_0) rfl ?_
  refine xw_ild (show xm_Imp g Γ 1 (xi_ild 1 2) from xs_iload_n hΓ dX1_agreeing_1) rfl ?_
  obtain ⟨_, e0, e⟩ := e
  obtain ⟨m1, m2, ⟨em1, em2⟩, e⟩ := e
  refine xw_tXvr1 (o := (some p0)) (show xm_Imp g Γ 2 (xi_virX g 0 M_X1_kept 9 1 5 X) from xs_invVX hG hΓ k_X1_kept rfl rfl (ci := 0) rfl q1944 q1946 qs39 dX1_agreeing_2) rfl rfl e0 em1 em2 (K_X1_kept hG p0 p1 _ _ _ e) (fun v4 h3 e => ?_)
  refine xw_asto (x := v4) (ls' := [some (.ref p0), some (.int p1), some (va_rf v4), none, none, none]) (show xm_Imp g Γ 5 (xi_ast 2 6) from xs_astore_n hΓ dX1_agreeing_5 (Nat.le_of_ble_eq_true rfl)) rfl ?_
  refine xw_psh (v := (.int (0))) (show xm_Imp g Γ 6 (xi_psh (.int (0)) 7) from xs_iconst hΓ dX1_agreeing_6 (by decide)) ?_
  refine xw_ist (ls' := [some (.ref p0), some (.int p1), some (va_rf v4), some (.int 0), none, none]) (show xm_Imp g Γ 7 (xi_ist 3 8) from xs_istore_n hΓ dX1_agreeing_7 (Nat.le_of_ble_eq_true rfl)) ((xm_s1_o (o := v4) rfl).trans rfl) ?_
  refine xw_ald (show xm_Imp g Γ 8 (xi_ald 0 9) from xs_aload_n hΓ dX1_agreeing_8) rfl ?_
  obtain ⟨v5, e1, e⟩ := e
  refine xw_gr1 (o := (some p0)) (show xm_Imp g Γ 9 (xi_get 0 0 12) from xs_get hG hΓ (ci := 0) (kf := 0) rfl (Nat.le_of_ble_eq_true rfl) q343 dX1_agreeing_9) rfl e1 ?_
  obtain ⟨a6, ha6, e⟩ := e
  obtain ⟨v7, e1, e⟩ := e
  refine xw_gr1 (o := v5) (show xm_Imp g Γ 12 (xi_get 1 0 15) from xs_getN hG hΓ (ci := 1) (kf := 0) rfl (Nat.le_of_ble_eq_true rfl) q276 dX1_agreeing_12) ha6 e1 ?_
  obtain ⟨a8, ha8, e⟩ := e
  obtain ⟨_, e0, e⟩ := e
  obtain ⟨m9, m10, ⟨em1, em2⟩, e⟩ := e
  refine xw_tvr0 (o := v7) (show xm_Imp g Γ 15 (xi_vir g 2 M_X3_iterator 3 0 18) from xs_invV hG hΓ k_X3_iterator rfl (ci := 2) rfl q1637 q1638 q1639 dX1_agreeing_15) (by simp [xm_stk, xv_cat, xc_int, xc_long, xc_float, xc_double, xc_ref]) ha8 e0 em1 em2 (K_X3_iterator hG a8 _ _ _ e) (fun v12 h11 e => ?_)
  refine xw_asto (x := v12) (ls' := [some (.ref p0), some (.int p1), some (va_rf v4), some (.int 0), some (va_rf v12), none]) (show xm_Imp g Γ 18 (xi_ast 4 20) from xs_astore hΓ dX1_agreeing_18 (Nat.le_of_ble_eq_true rfl)) rfl ?_
  exact xm_lx (hL_20 _ _ _ e) (And.intro rfl (And.intro rfl (And.intro rfl (trivial))))
noncomputable def F_J34_init (g : xm_G) (p0 : Nat) (h : xm_H) : Option (Unit) :=
 xo_b (F_J0_init g p0 h) (fun v1 =>
 some ())
set_option maxHeartbeats 4000000 in
theorem K_J34_init {g : xm_G} (hG : xm_Gw g) (p0 : Nat) (h : xm_H) {o : Unit} (e : F_J34_init g p0 h = some o) {Q : xm_P} {X : xm_X} (hQ : Q none h) : xm_Run g M_J34_init 3 [.ref p0] h 0 0 Q X := by
  refine xm_Run.of pn_java_util_AbstractSet (Nat.le_of_ble_eq_true rfl) (fun Γ hΓ => ?_)
  obtain ⟨P0, hP0, hp⟩ : ∃ P : Unit → Prop, (∀ o, P o → Q none h) ∧ P o := ⟨fun o => Q none h, fun _ h => h, hQ⟩
  clear hQ
  show xm_W g Γ 0 [some (.ref p0)] [] h 0 0
  unfold F_J34_init at e
  refine xw_ald (show xm_Imp g Γ 0 (xi_ald 0 1) from xs_aload_n hΓ dJ34_init_0) rfl ?_
  obtain ⟨v1, e1, e⟩ := xo_b_s e
  refine xw_pu0 (o := (some p0)) (show xm_Imp g Γ 1 (xi_spe g M_J0_init 2 0 4) from xs_invI hG hΓ k_J0_init rfl q2787 q196 rfl dJ34_init_1) rfl rfl (fun Q X hQ => K_J0_init hG p0 _ e1 hQ) ?_
  exact xw_vret (show xm_Imp g Γ 4 (xi_vret _) from xs_return hΓ rfl dJ34_init_4) (hP0 _ (xl_fin e hp))
