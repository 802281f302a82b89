/-! METHODS ON KNOWN CELLS as functions (printed by gen/mkhfun.py) -/
set_option maxRecDepth 100000
noncomputable def F_J35_init (g : xm_G) (p0 : Nat) (h : xm_H) (bc : Nat) (bs : Nat) (Q : xm_H → Prop) : Prop :=
 xt_b (F_J34_init g p0 h) (fun v1 =>
 xt_new h bc bs 8 (.inr (17, [.null, .null, .null, .null, .int 0, .int 0, .int 0, .float 0])) (fun a2 h3 b4 b5 =>
 xt_b (F_J26_init g a2 h3) (fun v6 =>
 xt_b (xh_w [(21, 0)] v6 p0 (.ref a2)) (fun h7 =>
 Q h7))))
set_option maxHeartbeats 4000000 in
theorem K_J35_init {g : xm_G} (hG : xm_Gw g) (p0 : Nat) (h : xm_H) (bc : Nat) (bs : Nat) {Q : xm_H → Prop} (e : F_J35_init g p0 h bc bs Q) : xm_Run g M_J35_init 4 [.ref p0] h bc bs (fun v h' => v = none ∧ Q h') xm_no := by
  refine xm_Run.of pn_java_util_HashSet (Nat.le_of_ble_eq_true rfl) (fun Γ hΓ => ?_)
  show xm_W g Γ 0 [some (.ref p0)] [] h bc bs
  unfold F_J35_init at e
  refine xw_ald (show xm_Imp g Γ 0 (xi_ald 0 1) from xs_aload_n hΓ dJ35_init_0) rfl ?_
  obtain ⟨v1, e1, e⟩ := e
  refine xw_pu0 (o := (some p0)) (show xm_Imp g Γ 1 (xi_spe g M_J34_init 3 0 4) from xs_invI hG hΓ k_J34_init rfl q2784 q2785 rfl dJ35_init_1) rfl rfl (fun Q X hQ => K_J34_init hG p0 _ e1 hQ) ?_
  refine xw_ald (show xm_Imp g Γ 4 (xi_ald 0 5) from xs_aload_n hΓ dJ35_init_4) rfl ?_
  refine xw_new (show xm_Imp g Γ 5 (xi_new 17 8 [.null, .null, .null, .null, .int 0, .int 0, .int 0, .float 0] 8) from xs_new hG hΓ (ci := 17) rfl q2788 q2789 q160 rfl tyJ26 tyJ26_ok (xm_df 8 (by decide +kernel)) dJ35_init_5) e (fun a2 h3 b4 b5 e => ?_)
  refine xw_dup (show xm_Imp g Γ 8 (xi_dup 9) from xs_dup hΓ dJ35_init_8) rfl ?_
  obtain ⟨v6, e1, e⟩ := e
  refine xw_pu0 (o := (some a2)) (show xm_Imp g Γ 9 (xi_spe g M_J26_init 3 0 12) from xs_invI hG hΓ k_J26_init rfl q2790 q2163 rfl dJ35_init_9) rfl rfl (fun Q X hQ => K_J26_init hG a2 _ e1 hQ) ?_
  obtain ⟨h7, e1, e⟩ := e
  refine xw_pt1 (o := (some p0)) (show xm_Imp g Γ 12 (xi_put 21 0 (.object "java/util/HashMap") 15) from xs_put hG hΓ (ci := 21) (kf := 0) rfl (Nat.le_of_ble_eq_true rfl) rfl (by decide +kernel) q2800 dJ35_init_12) rfl (xv_fit (Or.inl ⟨_, rfl⟩) (some a2)) e1 ?_
  exact xw_vret (show xm_Imp g Γ 15 (xi_vret _) from xs_return hΓ rfl dJ35_init_15) ⟨rfl, e⟩
noncomputable def F_J35_add (g : xm_G) (p0 : Nat) (p1 : Option Nat) (h : xm_H) (bc : Nat) (bs : Nat) (Q : Int32 → xm_H → Prop) : Prop :=
 xt_b (xh_fr [(21, 0)] h p0) (fun v1 =>
 xt_b v1 (fun a2 =>
 xt_b (xh_ci h a2) (fun c3 =>
 (if c3 = 17 then
 xt_c bc bs (fun m4 m5 => F_J26_put g a2 p1 (xm_sto g "java/util/HashSet" "PRESENT" "Ljava/lang/Object;") h m4 m5 (fun v7 h6 =>
 (if v7 = none then
 Q 1 h6 else
 Q 0 h6))) else
 (if c3 = 18 then
 xt_c bc bs (fun m8 m9 => F_J26_put g a2 p1 (xm_sto g "java/util/HashSet" "PRESENT" "Ljava/lang/Object;") h m8 m9 (fun v11 h10 =>
 (if v11 = none then
 Q 1 h10 else
 Q 0 h10))) else
 False)))))
set_option maxHeartbeats 4000000 in
theorem K_J35_add {g : xm_G} (hG : xm_Gw g) (p0 : Nat) (p1 : Option Nat) (h : xm_H) (bc : Nat) (bs : Nat) {Q : Int32 → xm_H → Prop} (e : F_J35_add g p0 p1 h bc bs Q) : xm_Run g M_J35_add 9 [.ref p0, va_rf p1] h bc bs (fun v h' => ∃ r, v = some (.int r) ∧ Q r h') xm_no := by
  refine xm_Run.of2 (ls := [some (.ref p0), some (va_rf p1)]) pn_java_util_HashSet (by cases p1 <;> exact Nat.le_of_ble_eq_true rfl) (by cases p1 <;> rfl) (fun Γ hΓ => ?_)
  show xm_W g Γ 0 [some (.ref p0), some (va_rf p1)] [] h bc bs
  unfold F_J35_add at e
  refine xw_ald (show xm_Imp g Γ 0 (xi_ald 0 1) from xs_aload_n hΓ dJ35_add_0) rfl ?_
  obtain ⟨v1, e1, e⟩ := e
  refine xw_gr1 (o := (some p0)) (show xm_Imp g Γ 1 (xi_get 21 0 4) from xs_get hG hΓ (ci := 21) (kf := 0) rfl (Nat.le_of_ble_eq_true rfl) q2800 dJ35_add_1) rfl e1 ?_
  refine xw_aldo (x := p1) (show xm_Imp g Γ 4 (xi_ald 1 5) from xs_aload_n hΓ dJ35_add_4) rfl ?_
  refine xw_psho (o := xm_sto g "java/util/HashSet" "PRESENT" "Ljava/lang/Object;") (show xm_Imp g Γ 5 (xi_psh (xm_stv g "java/util/HashSet" "PRESENT" "Ljava/lang/Object;") 8) from xs_gst hG hΓ (st_PRESENT hG) q2815 (lw_all_tbl q171) rfl q2814 dJ35_add_5) (so_PRESENT hG) ?_
  obtain ⟨a2, ha2, e⟩ := e
  obtain ⟨c3, e0, e⟩ := e
  by_cases cc0 : c3 = 17
  · rw [if_pos cc0] at e
    obtain ⟨m4, m5, ⟨em1, em2⟩, e⟩ := e
    refine xw_tvr2 (o := v1) (xm_or1 (show xm_Imp g Γ 8 (xi_or (xi_vir g 17 M_J26_put 8 2 11) (xi_vir g 18 M_J26_put 8 2 11)) from xs_or (xs_invV hG hΓ k_J26_put rfl (ci := 17) rfl q2816 q2237 q3540 dJ35_add_8) (xs_invU hG hΓ (owner := "java/util/HashMap") k_J26_put rfl (ci := 18) rfl q2816 q3539 q2237 q3541 rfl ⟨by decide, by decide⟩ (by decide +kernel) dJ35_add_8))) (by simp [xm_stk, xv_cat, xc_int, xc_long, xc_float, xc_double, xc_ref]) ha2 (xh_is_of e0 cc0) em1 em2 (K_J26_put hG a2 p1 (xm_sto g "java/util/HashSet" "PRESENT" "Ljava/lang/Object;") _ _ _ e) (fun v7 h6 e => ?_)
    refine xw_nul (o := v7) (show xm_Imp g Γ 11 (xi_nul 14 18) from xs_ifnonnull hΓ dJ35_add_11 (by decide)) (fun c => ?_) (fun c => ?_)
    · rw [if_pos c] at e
      refine xw_psh (v := (.int (1))) (show xm_Imp g Γ 14 (xi_psh (.int (1)) 15) from xs_iconst hΓ dJ35_add_14 (by decide)) ?_
      refine xw_goto (show xm_Imp g Γ 15 (xi_goto 19) from xs_goto hΓ dJ35_add_15 (by decide)) ?_
      exact xw_iret (show xm_Imp g Γ 19 (xi_iret .boolean _) from xs_ireturn hΓ rfl dJ35_add_19) rfl ⟨_, rfl, e⟩
    · rw [if_neg c] at e
      refine xw_psh (v := (.int (0))) (show xm_Imp g Γ 18 (xi_psh (.int (0)) 19) from xs_iconst hΓ dJ35_add_18 (by decide)) ?_
      exact xw_iret (show xm_Imp g Γ 19 (xi_iret .boolean _) from xs_ireturn hΓ rfl dJ35_add_19) rfl ⟨_, rfl, e⟩
  rw [if_neg cc0] at e
  by_cases cc1 : c3 = 18
  · rw [if_pos cc1] at e
    obtain ⟨m8, m9, ⟨em1, em2⟩, e⟩ := e
    refine xw_tvr2 (o := v1) (xm_or2 (show xm_Imp g Γ 8 (xi_or (xi_vir g 17 M_J26_put 8 2 11) (xi_vir g 18 M_J26_put 8 2 11)) from xs_or (xs_invV hG hΓ k_J26_put rfl (ci := 17) rfl q2816 q2237 q3540 dJ35_add_8) (xs_invU hG hΓ (owner := "java/util/HashMap") k_J26_put rfl (ci := 18) rfl q2816 q3539 q2237 q3541 rfl ⟨by decide, by decide⟩ (by decide +kernel) dJ35_add_8))) (by simp [xm_stk, xv_cat, xc_int, xc_long, xc_float, xc_double, xc_ref]) ha2 (xh_is_of e0 cc1) em1 em2 (K_J26_put hG a2 p1 (xm_sto g "java/util/HashSet" "PRESENT" "Ljava/lang/Object;") _ _ _ e) (fun v11 h10 e => ?_)
    refine xw_nul (o := v11) (show xm_Imp g Γ 11 (xi_nul 14 18) from xs_ifnonnull hΓ dJ35_add_11 (by decide)) (fun c => ?_) (fun c => ?_)
    · rw [if_pos c] at e
      refine xw_psh (v := (.int (1))) (show xm_Imp g Γ 14 (xi_psh (.int (1)) 15) from xs_iconst hΓ dJ35_add_14 (by decide)) ?_
      refine xw_goto (show xm_Imp g Γ 15 (xi_goto 19) from xs_goto hΓ dJ35_add_15 (by decide)) ?_
      exact xw_iret (show xm_Imp g Γ 19 (xi_iret .boolean _) from xs_ireturn hΓ rfl dJ35_add_19) rfl ⟨_, rfl, e⟩
    · rw [if_neg c] at e
      refine xw_psh (v := (.int (0))) (show xm_Imp g Γ 18 (xi_psh (.int (0)) 19) from xs_iconst hΓ dJ35_add_18 (by decide)) ?_
      exact xw_iret (show xm_Imp g Γ 19 (xi_iret .boolean _) from xs_ireturn hΓ rfl dJ35_add_19) rfl ⟨_, rfl, e⟩
  rw [if_neg cc1] at e
  exact e.elim
noncomputable def F_J26_containsKey (g : xm_G) (p0 : Nat) (p1 : Option Nat) (h : xm_H) : Option (Int32) :=
 xo_b (xh_ci h p0) (fun c1 =>
 (if c1 = 17 then
 xo_b (F_J26_getNode g p0 p1 h) (fun v2 =>
 (if v2 = none then
 some 0 else
 some 1)) else
 (if c1 = 18 then
 xo_b (F_J26_getNode g p0 p1 h) (fun v3 =>
 (if v3 = none then
 some 0 else
 some 1)) else
 none)))
set_option maxHeartbeats 4000000 in
theorem K_J26_containsKey {g : xm_G} (hG : xm_Gw g) (p0 : Nat) (p1 : Option Nat) (h : xm_H) {o : Int32} (e : F_J26_containsKey g p0 p1 h = some o) {Q : xm_P} {X : xm_X} (hQ : Q (some (.int o)) h) : xm_Run g M_J26_containsKey 4 [.ref p0, va_rf p1] h 0 0 Q X := by
  refine xm_Run.of2 (ls := [some (.ref p0), some (va_rf p1)]) pn_java_util_HashMap (by cases p1 <;> exact Nat.le_of_ble_eq_true rfl) (by cases p1 <;> rfl) (fun Γ hΓ => ?_)
  obtain ⟨P0, hP0, hp⟩ : ∃ P : Int32 → Prop, (∀ o, P o → Q (some (.int o)) h) ∧ P o := ⟨fun o => Q (some (.int o)) h, fun _ h => h, hQ⟩
  clear hQ
  show xm_W g Γ 0 [some (.ref p0), some (va_rf p1)] [] h 0 0
  unfold F_J26_containsKey at e
  refine xw_ald (show xm_Imp g Γ 0 (xi_ald 0 1) from xs_aload_n hΓ dJ26_containsKey_0) rfl ?_
  refine xw_aldo (x := p1) (show xm_Imp g Γ 1 (xi_ald 1 2) from xs_aload_n hΓ dJ26_containsKey_1) rfl ?_
  obtain ⟨c1, e0, e⟩ := xo_b_s e
  by_cases cc0 : c1 = 17
  · rw [if_pos cc0] at e
    obtain ⟨v2, e1, e⟩ := xo_b_s e
    refine xw_hv1 (o := (some p0)) (xm_or1 (show xm_Imp g Γ 2 (xi_or (xi_vir g 17 M_J26_getNode 3 1 5) (xi_vir g 18 M_J26_getNode 3 1 5)) from xs_or (xs_invV hG hΓ k_J26_getNode rfl (ci := 17) rfl q2735 q2736 q2737 dJ26_containsKey_2) (xs_invU hG hΓ (owner := "java/util/HashMap") k_J26_getNode rfl (ci := 18) rfl q2735 q2738 q2736 q2739 rfl ⟨by decide, by decide⟩ (by decide +kernel) dJ26_containsKey_2))) rfl rfl (xh_is_of e0 cc0) (fun Q X hQ => K_J26_getNode hG p0 p1 _ e1 hQ) ?_
    refine xw_nul (o := v2) (show xm_Imp g Γ 5 (xi_nul 12 8) from xs_ifnull hΓ dJ26_containsKey_5 (by decide)) (fun c => ?_) (fun c => ?_)
    · rw [if_pos c] at e
      refine xw_psh (v := (.int (0))) (show xm_Imp g Γ 12 (xi_psh (.int (0)) 13) from xs_iconst hΓ dJ26_containsKey_12 (by decide)) ?_
      have hq := hP0 _ (xl_fin e hp)
      exact xw_iret (show xm_Imp g Γ 13 (xi_iret .boolean _) from xs_ireturn hΓ rfl dJ26_containsKey_13) rfl hq
    · rw [if_neg c] at e
      refine xw_psh (v := (.int (1))) (show xm_Imp g Γ 8 (xi_psh (.int (1)) 9) from xs_iconst hΓ dJ26_containsKey_8 (by decide)) ?_
      refine xw_goto (show xm_Imp g Γ 9 (xi_goto 13) from xs_goto hΓ dJ26_containsKey_9 (by decide)) ?_
      have hq := hP0 _ (xl_fin e hp)
      exact xw_iret (show xm_Imp g Γ 13 (xi_iret .boolean _) from xs_ireturn hΓ rfl dJ26_containsKey_13) rfl hq
  rw [if_neg cc0] at e
  by_cases cc1 : c1 = 18
  · rw [if_pos cc1] at e
    obtain ⟨v3, e1, e⟩ := xo_b_s e
    refine xw_hv1 (o := (some p0)) (xm_or2 (show xm_Imp g Γ 2 (xi_or (xi_vir g 17 M_J26_getNode 3 1 5) (xi_vir g 18 M_J26_getNode 3 1 5)) from xs_or (xs_invV hG hΓ k_J26_getNode rfl (ci := 17) rfl q2735 q2736 q2737 dJ26_containsKey_2) (xs_invU hG hΓ (owner := "java/util/HashMap") k_J26_getNode rfl (ci := 18) rfl q2735 q2738 q2736 q2739 rfl ⟨by decide, by decide⟩ (by decide +kernel) dJ26_containsKey_2))) rfl rfl (xh_is_of e0 cc1) (fun Q X hQ => K_J26_getNode hG p0 p1 _ e1 hQ) ?_
    refine xw_nul (o := v3) (show xm_Imp g Γ 5 (xi_nul 12 8) from xs_ifnull hΓ dJ26_containsKey_5 (by decide)) (fun c => ?_) (fun c => ?_)
    · rw [if_pos c] at e
      refine xw_psh (v := (.int (0))) (show xm_Imp g Γ 12 (xi_psh (.int (0)) 13) from xs_iconst hΓ dJ26_containsKey_12 (by decide)) ?_
      have hq := hP0 _ (xl_fin e hp)
      exact xw_iret (show xm_Imp g Γ 13 (xi_iret .boolean _) from xs_ireturn hΓ rfl dJ26_containsKey_13) rfl hq
    · rw [if_neg c] at e
      refine xw_psh (v := (.int (1))) (show xm_Imp g Γ 8 (xi_psh (.int (1)) 9) from xs_iconst hΓ dJ26_containsKey_8 (by decide)) ?_
      refine xw_goto (show xm_Imp g Γ 9 (xi_goto 13) from xs_goto hΓ dJ26_containsKey_9 (by decide)) ?_
      have hq := hP0 _ (xl_fin e hp)
      exact xw_iret (show xm_Imp g Γ 13 (xi_iret .boolean _) from xs_ireturn hΓ rfl dJ26_containsKey_13) rfl hq
  rw [if_neg cc1] at e
  cases e
noncomputable def F_J35_contains (g : xm_G) (p0 : Nat) (p1 : Option Nat) (h : xm_H) : Option (Int32) :=
 xo_b (xh_fr [(21, 0)] h p0) (fun v1 =>
 xo_b v1 (fun a2 =>
 xo_b (xh_ci h a2) (fun c3 =>
 (if c3 = 17 then
 xo_b (F_J26_containsKey g a2 p1 h) (fun v4 =>
 xo_b (xb_chk .boolean v4) (fun _ =>
 some v4)) else
 (if c3 = 18 then
 xo_b (F_J26_containsKey g a2 p1 h) (fun v5 =>
 xo_b (xb_chk .boolean v5) (fun _ =>
 some v5)) else
 none)))))
set_option maxHeartbeats 4000000 in
theorem K_J35_contains {g : xm_G} (hG : xm_Gw g) (p0 : Nat) (p1 : Option Nat) (h : xm_H) {o : Int32} (e : F_J35_contains g p0 p1 h = some o) {Q : xm_P} {X : xm_X} (hQ : Q (some (.int o)) h) : xm_Run g M_J35_contains 5 [.ref p0, va_rf p1] h 0 0 Q X := by
  refine xm_Run.of2 (ls := [some (.ref p0), some (va_rf p1)]) pn_java_util_HashSet (by cases p1 <;> exact Nat.le_of_ble_eq_true rfl) (by cases p1 <;> rfl) (fun Γ hΓ => ?_)
  obtain ⟨P0, hP0, hp⟩ : ∃ P : Int32 → Prop, (∀ o, P o → Q (some (.int o)) h) ∧ P o := ⟨fun o => Q (some (.int o)) h, fun _ h => h, hQ⟩
  clear hQ
  show xm_W g Γ 0 [some (.ref p0), some (va_rf p1)] [] h 0 0
  unfold F_J35_contains at e
  refine xw_ald (show xm_Imp g Γ 0 (xi_ald 0 1) from xs_aload_n hΓ dJ35_contains_0) rfl ?_
  obtain ⟨v1, e1, e⟩ := xo_b_s e
  refine xw_gr1 (o := (some p0)) (show xm_Imp g Γ 1 (xi_get 21 0 4) from xs_get hG hΓ (ci := 21) (kf := 0) rfl (Nat.le_of_ble_eq_true rfl) q2800 dJ35_contains_1) rfl e1 ?_
  refine xw_aldo (x := p1) (show xm_Imp g Γ 4 (xi_ald 1 5) from xs_aload_n hΓ dJ35_contains_4) rfl ?_
  obtain ⟨a2, ha2, e⟩ := xo_b_s e
  obtain ⟨c3, e0, e⟩ := xo_b_s e
  by_cases cc0 : c3 = 17
  · rw [if_pos cc0] at e
    obtain ⟨v4, e1, e⟩ := xo_b_s e
    refine xw_hv1 (o := v1) (xm_or1 (show xm_Imp g Γ 5 (xi_or (xi_vir g 17 M_J26_containsKey 4 1 8) (xi_vir g 18 M_J26_containsKey 4 1 8)) from xs_or (xs_invV hG hΓ k_J26_containsKey rfl (ci := 17) rfl q2826 q2827 q2828 dJ35_contains_5) (xs_invU hG hΓ (owner := "java/util/HashMap") k_J26_containsKey rfl (ci := 18) rfl q2826 q2829 q2827 q2830 rfl ⟨by decide, by decide⟩ (by decide +kernel) dJ35_contains_5))) (by simp [xm_stk, xv_cat, xc_int, xc_long, xc_float, xc_double, xc_ref]) ha2 (xh_is_of e0 cc0) (fun Q X hQ => K_J26_containsKey hG a2 p1 _ e1 hQ) ?_
    obtain ⟨_, e1, e⟩ := xo_b_s e
    have hq := hP0 _ (xl_fin e hp)
    exact xw_iret (show xm_Imp g Γ 8 (xi_iret .boolean _) from xs_ireturn hΓ rfl dJ35_contains_8) (xb_of e1) hq
  rw [if_neg cc0] at e
  by_cases cc1 : c3 = 18
  · rw [if_pos cc1] at e
    obtain ⟨v5, e1, e⟩ := xo_b_s e
    refine xw_hv1 (o := v1) (xm_or2 (show xm_Imp g Γ 5 (xi_or (xi_vir g 17 M_J26_containsKey 4 1 8) (xi_vir g 18 M_J26_containsKey 4 1 8)) from xs_or (xs_invV hG hΓ k_J26_containsKey rfl (ci := 17) rfl q2826 q2827 q2828 dJ35_contains_5) (xs_invU hG hΓ (owner := "java/util/HashMap") k_J26_containsKey rfl (ci := 18) rfl q2826 q2829 q2827 q2830 rfl ⟨by decide, by decide⟩ (by decide +kernel) dJ35_contains_5))) (by simp [xm_stk, xv_cat, xc_int, xc_long, xc_float, xc_double, xc_ref]) ha2 (xh_is_of e0 cc1) (fun Q X hQ => K_J26_containsKey hG a2 p1 _ e1 hQ) ?_
    obtain ⟨_, e1, e⟩ := xo_b_s e
    have hq := hP0 _ (xl_fin e hp)
    exact xw_iret (show xm_Imp g Γ 8 (xi_iret .boolean _) from xs_ireturn hΓ rfl dJ35_contains_8) (xb_of e1) hq
  rw [if_neg cc1] at e
  cases e
noncomputable def B_X1_outsiders_124 (g : xm_G) (l0 : Nat) (l2 : Option Nat) (l4 : Int32) (l5 : Int32) (h : xm_H) (bc : Nat) (bs : Nat) (k81 : Int32 × Int32 × xm_H × Nat × Nat → Prop) (Q : Int32 → xm_H → Prop) (X : xm_X) : Prop :=
 k81 (l4, (l5 + 1), h, bc, bs)
noncomputable def D_X1_outsiders_81 (g : xm_G) (l0 : Nat) (l2 : Option Nat) (Q : Int32 → xm_H → Prop) (X : xm_X) (k81 : Int32 × Int32 × xm_H × Nat × Nat → Prop) (s : Int32 × Int32 × xm_H × Nat × Nat) : Prop :=
 xt_b (xh_is 0 s.2.2.1 l0) (fun _ =>
 xt_b (F_X1_qubits g l0 s.2.2.1) (fun v20 =>
 (if v20 ≤ s.2.1 then
 Q s.1 s.2.2.1 else
 xt_b (xh_fr [(0, 0)] s.2.2.1 l0) (fun v21 =>
 xt_b v21 (fun a22 =>
 xt_b (xh_fr [(1, 0)] s.2.2.1 a22) (fun v23 =>
 xt_b v23 (fun a24 =>
 xt_b (xh_fr [(2, 0)] s.2.2.1 a24) (fun v25 =>
 xt_b v25 (fun a26 =>
 xt_b (xh_ar "StringTableau$Row" s.2.2.1 a26 s.2.1) (fun v27 =>
 xt_b v27 (fun a28 =>
 xt_b (xh_is 3 s.2.2.1 a28) (fun _ =>
 xt_c s.2.2.2.1 s.2.2.2.2 (fun m29 m30 => F_X4_word g a28 s.2.2.1 m29 m30 (fun v32 h31 =>
 xt_b l2 (fun a33 =>
 xt_b (xh_is 21 h31 a33) (fun _ =>
 xt_b (F_J35_contains g a33 v32 h31) (fun v34 =>
 B_X1_outsiders_124 g l0 l2 (if v34 = 0 then s.1 else s.1 ||| (1 <<< (s.2.1 &&& 31))) s.2.1 h31 (s.2.2.2.1 - m29) (s.2.2.2.2 - m30) k81 Q X)))))))))))))))))
noncomputable def L_X1_outsiders_81 (g : xm_G) (l0 : Nat) (l2 : Option Nat) (Q : Int32 → xm_H → Prop) (X : xm_X) (s : Int32 × Int32 × xm_H × Nat × Nat) : Prop := xt_loop (D_X1_outsiders_81 g l0 l2 Q X) s
noncomputable def B_X1_outsiders_69 (g : xm_G) (l0 : Nat) (l2 : Option Nat) (l3 : Option Nat) (l4 : Option Nat) (l5 : Int32) (l6 : Int32) (h : xm_H) (bc : Nat) (bs : Nat) (k34 : Int32 × xm_H × Nat × Nat → Prop) (Q : Int32 → xm_H → Prop) (X : xm_X) : Prop :=
 k34 ((l6 + 1), h, bc, bs)
noncomputable def D_X1_outsiders_34 (g : xm_G) (l0 : Nat) (l2 : Option Nat) (l3 : Option Nat) (l4 : Option Nat) (l5 : Int32) (Q : Int32 → xm_H → Prop) (X : xm_X) (k34 : Int32 × xm_H × Nat × Nat → Prop) (s : Int32 × xm_H × Nat × Nat) : Prop :=
 (if l5 ≤ s.1 then
 L_X1_outsiders_81 g l0 l2 Q X (0, 0, s.2.1, s.2.2.1, s.2.2.2) else
 xt_b l4 (fun a35 =>
 xt_b (xh_ar "StringTableau$Row" s.2.1 a35 s.1) (fun v36 =>
 xt_b l3 (fun a37 =>
 xt_b (xh_is 2 s.2.1 a37) (fun _ =>
 xt_c s.2.2.1 s.2.2.2 (fun m38 m39 => F_X3_contains g a37 v36 s.2.1 m38 m39 (fun v41 h40 =>
 (if v41 = 0 then
 xt_b v36 (fun a42 =>
 xt_b (xh_is 3 h40 a42) (fun _ =>
 xt_c (s.2.2.1 - m38) (s.2.2.2 - m39) (fun m43 m44 => F_X4_word g a42 h40 m43 m44 (fun v46 h45 =>
 xt_b l2 (fun a47 =>
 xt_b (xh_is 21 h45 a47) (fun _ =>
 xt_c ((s.2.2.1 - m38) - m43) ((s.2.2.2 - m39) - m44) (fun m48 m49 => F_J35_add g a47 v46 h45 m48 m49 (fun v51 h50 =>
 B_X1_outsiders_69 g l0 l2 l3 l4 l5 s.1 h50 (((s.2.2.1 - m38) - m43) - m48) (((s.2.2.2 - m39) - m44) - m49) k34 Q X)))))))) else
 B_X1_outsiders_69 g l0 l2 l3 l4 l5 s.1 h40 (s.2.2.1 - m38) (s.2.2.2 - m39) k34 Q X))))))))
noncomputable def L_X1_outsiders_34 (g : xm_G) (l0 : Nat) (l2 : Option Nat) (l3 : Option Nat) (l4 : Option Nat) (l5 : Int32) (Q : Int32 → xm_H → Prop) (X : xm_X) (s : Int32 × xm_H × Nat × Nat) : Prop := xt_loop (D_X1_outsiders_34 g l0 l2 l3 l4 l5 Q X) s
noncomputable def F_X1_outsiders (g : xm_G) (p0 : Nat) (p1 : Int32) (h : xm_H) (bc : Nat) (bs : Nat) (Q : Int32 → xm_H → Prop) (X : xm_X) : Prop :=
 xt_new h bc bs 1 (.inr (21, [.null])) (fun a1 h2 b3 b4 =>
 xt_c b3 b4 (fun m5 m6 => F_J35_init g a1 h2 m5 m6 (fun h7 =>
 xt_b (xh_is 0 h7 p0) (fun _ =>
 xt_c (b3 - m5) (b4 - m6) (fun m9 m10 => F_X1_kept g p0 p1 h7 m9 m10 (fun v12 h11 =>
 xt_b (xh_fr [(0, 0)] h11 p0) (fun v13 =>
 xt_b v13 (fun a14 =>
 xt_b (xh_fr [(1, 0)] h11 a14) (fun v15 =>
 xt_b v15 (fun a16 =>
 xt_b (xh_fr [(2, 0)] h11 a16) (fun v17 =>
 xt_b v17 (fun a18 =>
 xt_b (xh_len h11 a18) (fun v19 =>
 L_X1_outsiders_34 g p0 (some a1) v12 v17 v19 Q X (0, h11, ((b3 - m5) - m9), ((b4 - m6) - m10)))))))))) X)))))
set_option maxHeartbeats 4000000 in
theorem K_X1_outsiders {g : xm_G} (hG : xm_Gw g) (p0 : Nat) (p1 : Int32) (h : xm_H) (bc : Nat) (bs : Nat) {Q : Int32 → xm_H → Prop} {X : xm_X} (e : F_X1_outsiders g p0 p1 h bc bs Q X) : xm_Run g M_X1_outsiders 10 [.ref p0, .int p1] h bc bs (fun v h' => ∃ r, v = some (.int r) ∧ Q r h') X := by
  refine xm_Run.of pn_StringTableau (Nat.le_of_ble_eq_true rfl) (fun Γ hΓ => ?_)
  show xm_W g Γ 0 [some (.ref p0), some (.int p1), none, none, none, none, none, none] [] h bc bs
  have hL_81 : ∀ (l0 : Nat) (l2 : Option Nat) (s : Int32 × Int32 × xm_H × Nat × Nat), L_X1_outsiders_81 g l0 l2 Q X s → xm_W g Γ 81 [some (.ref l0), none, some (va_rf l2), none, some (.int s.1), some (.int s.2.1), none, none] [] s.2.2.1 s.2.2.2.1 s.2.2.2.2 := by
    intro l0 l2
    refine xt_rule (WS := fun s : Int32 × Int32 × xm_H × Nat × Nat => xm_W g Γ 81 [some (.ref l0), none, some (va_rf l2), none, some (.int s.1), some (.int s.2.1), none, none] [] s.2.2.1 s.2.2.2.1 s.2.2.2.2) ?_
    intro k81 hk81 s e
    have hB_124 : ∀ (l4 : Int32) (l5 : Int32) (h : xm_H) (bc : Nat) (bs : Nat), B_X1_outsiders_124 g l0 l2 l4 l5 h bc bs k81 Q X → xm_W g Γ 124 [some (.ref l0), none, some (va_rf l2), none, some (.int l4), some (.int l5), none, none] [] h bc bs := by
      intro l4 l5 h bc bs e
      unfold B_X1_outsiders_124 at e
      refine xw_inc (v := (1)) (ls' := [some (.ref l0), none, some (va_rf l2), none, some (.int l4), some (.int (l5 + 1)), none, none]) (show xm_Imp g Γ 124 (xi_inc 5 (1) 127) from xs_iinc hΓ dX1_outsiders_124 (by decide) (Nat.le_of_ble_eq_true rfl)) rfl rfl ?_
      refine xw_goto (show xm_Imp g Γ 127 (xi_goto 81) from xs_goto hΓ dX1_outsiders_127 (by decide)) ?_
      have hq := hk81 _ e; exact hq
    unfold D_X1_outsiders_81 at e
    refine xw_ild (show xm_Imp g Γ 81 (xi_ild 5 83) from xs_iload hΓ dX1_outsiders_81) rfl ?_
    refine xw_ald (show xm_Imp g Γ 83 (xi_ald 0 84) from xs_aload_n hΓ dX1_outsiders_83) rfl ?_
    obtain ⟨_, e0, e⟩ := e
    obtain ⟨v20, e1, e⟩ := e
    refine xw_hv0 (o := (some l0)) (show xm_Imp g Γ 84 (xi_vir g 0 M_X1_qubits 1 0 87) from xs_invV hG hΓ k_X1_qubits rfl (ci := 0) rfl q1139 q1141 qs20 dX1_outsiders_84) rfl rfl e0 (fun Q X hQ => K_X1_qubits hG l0 _ e1 hQ) ?_
    refine xw_ic (show xm_Imp g Γ 87 (xi_ic (fun x y => y ≤ x) 130 90) from xs_icmp_ge hΓ dX1_outsiders_87 (by decide)) (fun c => ?_) (fun c => ?_)
    · rw [if_pos c] at e
      refine xw_ild (show xm_Imp g Γ 130 (xi_ild 4 132) from xs_iload hΓ dX1_outsiders_130) rfl ?_
      exact xw_iret (show xm_Imp g Γ 132 (xi_iret .int _) from xs_ireturn hΓ rfl dX1_outsiders_132) (xn_int _) ⟨_, rfl, e⟩
    · rw [if_neg c] at e
      refine xw_aldo (x := l2) (show xm_Imp g Γ 90 (xi_ald 2 91) from xs_aload_n hΓ dX1_outsiders_90) rfl ?_
      refine xw_ald (show xm_Imp g Γ 91 (xi_ald 0 92) from xs_aload_n hΓ dX1_outsiders_91) rfl ?_
      obtain ⟨v21, e1, e⟩ := e
      refine xw_gr1 (o := (some l0)) (show xm_Imp g Γ 92 (xi_get 0 0 95) from xs_get hG hΓ (ci := 0) (kf := 0) rfl (Nat.le_of_ble_eq_true rfl) q343 dX1_outsiders_92) rfl e1 ?_
      obtain ⟨a22, ha22, e⟩ := e
      obtain ⟨v23, e1, e⟩ := e
      refine xw_gr1 (o := v21) (show xm_Imp g Γ 95 (xi_get 1 0 98) from xs_getN hG hΓ (ci := 1) (kf := 0) rfl (Nat.le_of_ble_eq_true rfl) q276 dX1_outsiders_95) ha22 e1 ?_
      obtain ⟨a24, ha24, e⟩ := e
      obtain ⟨v25, e1, e⟩ := e
      refine xw_gr1 (o := v23) (show xm_Imp g Γ 98 (xi_get 2 0 101) from xs_getN hG hΓ (ci := 2) (kf := 0) rfl (Nat.le_of_ble_eq_true rfl) q271 dX1_outsiders_98) ha24 e1 ?_
      refine xw_ild (show xm_Imp g Γ 101 (xi_ild 5 103) from xs_iload hΓ dX1_outsiders_101) rfl ?_
      obtain ⟨a26, ha26, e⟩ := e
      obtain ⟨v27, e1, e⟩ := e
      refine xw_haal (o := v25) (show xm_Imp g Γ 103 (xi_aal "StringTableau$Row" 104) from xs_aal hG hΓ dX1_outsiders_103) ha26 e1 ?_
      obtain ⟨a28, ha28, e⟩ := e
      obtain ⟨_, e0, e⟩ := e
      obtain ⟨m29, m30, ⟨em1, em2⟩, e⟩ := e
      refine xw_tvr0 (o := v27) (show xm_Imp g Γ 104 (xi_vir g 3 M_X4_word 3 0 107) from xs_invV hG hΓ k_X4_word rfl (ci := 3) rfl q2725 q2207 q2208 dX1_outsiders_104) (by simp [xm_stk, xv_cat, xc_int, xc_long, xc_float, xc_double, xc_ref]) ha28 e0 em1 em2 (K_X4_word hG a28 _ _ _ e) (fun v32 h31 e => ?_)
      obtain ⟨a33, ha33, e⟩ := e
      obtain ⟨_, e0, e⟩ := e
      obtain ⟨v34, e1, e⟩ := e
      refine xw_hv1 (o := l2) (show xm_Imp g Γ 107 (xi_vir g 21 M_J35_contains 5 1 112) from xs_invF hG hΓ k_J35_contains rfl (ci := 21) rfl q2818 q2823 q2821 ⟨by decide, by decide⟩ (by decide +kernel) q2820 q2819 q2824 q2822 q2808 dX1_outsiders_107) (by simp [xm_stk, xv_cat, xc_int, xc_long, xc_float, xc_double, xc_ref]) ha33 e0 (fun Q X hQ => K_J35_contains hG a33 v32 _ e1 hQ) ?_
      refine xw_if (show xm_Imp g Γ 112 (xi_if (fun x => x = 0) 124 115) from xs_if_eq hΓ dX1_outsiders_112 (by decide)) (fun c => ?_) (fun c => ?_)
      · rw [if_pos c] at e
        exact hB_124 _ _ _ _ _ e
      · rw [if_neg c] at e
        refine xw_ild (show xm_Imp g Γ 115 (xi_ild 4 117) from xs_iload hΓ dX1_outsiders_115) rfl ?_
        refine xw_psh (v := (.int (1))) (show xm_Imp g Γ 117 (xi_psh (.int (1)) 118) from xs_iconst hΓ dX1_outsiders_117 (by decide)) ?_
        refine xw_ild (show xm_Imp g Γ 118 (xi_ild 5 120) from xs_iload hΓ dX1_outsiders_118) rfl ?_
        refine xw_ii (show xm_Imp g Γ 120 (xi_ii (fun x y => x <<< (y &&& 31)) 121) from xs_ishl hΓ dX1_outsiders_120) ?_
        refine xw_ii (show xm_Imp g Γ 121 (xi_ii (fun x y => x ||| y) 122) from xs_ior hΓ dX1_outsiders_121) ?_
        refine xw_ist (ls' := [some (.ref l0), none, some (va_rf l2), none, some (.int (s.1 ||| (1 <<< (s.2.1 &&& 31)))), some (.int s.2.1), none, none]) (show xm_Imp g Γ 122 (xi_ist 4 124) from xs_istore hΓ dX1_outsiders_122 (Nat.le_of_ble_eq_true rfl)) rfl ?_
        exact hB_124 _ _ _ _ _ e
  have hL_34 : ∀ (l0 : Nat) (l2 : Option Nat) (l3 : Option Nat) (l4 : Option Nat) (l5 : Int32) (s : Int32 × xm_H × Nat × Nat), L_X1_outsiders_34 g l0 l2 l3 l4 l5 Q X s → xm_W g Γ 34 [some (.ref l0), none, some (va_rf l2), some (va_rf l3), some (va_rf l4), some (.int l5), some (.int s.1), none] [] s.2.1 s.2.2.1 s.2.2.2 := by
    intro l0 l2 l3 l4 l5
    refine xt_rule (WS := fun s : Int32 × xm_H × Nat × Nat => xm_W g Γ 34 [some (.ref l0), none, some (va_rf l2), some (va_rf l3), some (va_rf l4), some (.int l5), some (.int s.1), none] [] s.2.1 s.2.2.1 s.2.2.2) ?_
    intro k34 hk34 s e
    have hB_69 : ∀ (l6 : Int32) (h : xm_H) (bc : Nat) (bs : Nat), B_X1_outsiders_69 g l0 l2 l3 l4 l5 l6 h bc bs k34 Q X → xm_W g Γ 69 [some (.ref l0), none, some (va_rf l2), some (va_rf l3), some (va_rf l4), some (.int l5), some (.int l6), none] [] h bc bs := by
      intro l6 h bc bs e
      unfold B_X1_outsiders_69 at e
      refine xw_inc (v := (1)) (ls' := [some (.ref l0), none, some (va_rf l2), some (va_rf l3), some (va_rf l4), some (.int l5), some (.int (l6 + 1)), none]) (show xm_Imp g Γ 69 (xi_inc 6 (1) 72) from xs_iinc hΓ dX1_outsiders_69 (by decide) (Nat.le_of_ble_eq_true rfl)) rfl rfl ?_
      refine xw_goto (show xm_Imp g Γ 72 (xi_goto 34) from xs_goto hΓ dX1_outsiders_72 (by decide)) ?_
      have hq := hk34 _ e; exact hq
    unfold D_X1_outsiders_34 at e
    refine xw_ild (show xm_Imp g Γ 34 (xi_ild 6 36) from xs_iload hΓ dX1_outsiders_34) rfl ?_
    refine xw_ild (show xm_Imp g Γ 36 (xi_ild 5 38) from xs_iload hΓ dX1_outsiders_36) rfl ?_
    refine xw_ic (show xm_Imp g Γ 38 (xi_ic (fun x y => y ≤ x) 75 41) from xs_icmp_ge hΓ dX1_outsiders_38 (by decide)) (fun c => ?_) (fun c => ?_)
    · rw [if_pos c] at e
      refine xw_psh (v := (.int (0))) (show xm_Imp g Γ 75 (xi_psh (.int (0)) 76) from xs_iconst hΓ dX1_outsiders_75 (by decide)) ?_
      refine xw_ist (ls' := [some (.ref l0), none, some (va_rf l2), some (va_rf l3), some (.int 0), some (.int l5), some (.int s.1), none]) (show xm_Imp g Γ 76 (xi_ist 4 78) from xs_istore hΓ dX1_outsiders_76 (Nat.le_of_ble_eq_true rfl)) ((xm_s1_o (o := l3) rfl).trans rfl) ?_
      refine xw_psh (v := (.int (0))) (show xm_Imp g Γ 78 (xi_psh (.int (0)) 79) from xs_iconst hΓ dX1_outsiders_78 (by decide)) ?_
      refine xw_ist (ls' := [some (.ref l0), none, some (va_rf l2), some (va_rf l3), some (.int 0), some (.int 0), some (.int s.1), none]) (show xm_Imp g Γ 79 (xi_ist 5 81) from xs_istore hΓ dX1_outsiders_79 (Nat.le_of_ble_eq_true rfl)) rfl ?_
      exact xm_lx (hL_81 _ _ _ e) (And.intro rfl (And.intro rfl (And.intro rfl (And.intro rfl (trivial)))))
    · rw [if_neg c] at e
      refine xw_aldo (x := l4) (show xm_Imp g Γ 41 (xi_ald 4 43) from xs_aload hΓ dX1_outsiders_41) rfl ?_
      refine xw_ild (show xm_Imp g Γ 43 (xi_ild 6 45) from xs_iload hΓ dX1_outsiders_43) rfl ?_
      obtain ⟨a35, ha35, e⟩ := e
      obtain ⟨v36, e1, e⟩ := e
      refine xw_haal (o := l4) (show xm_Imp g Γ 45 (xi_aal "StringTableau$Row" 46) from xs_aal hG hΓ dX1_outsiders_45) ha35 e1 ?_
      refine xw_asto (x := v36) (ls' := [some (.ref l0), none, some (va_rf l2), some (va_rf l3), some (va_rf l4), some (.int l5), some (.int s.1), some (va_rf v36)]) (show xm_Imp g Γ 46 (xi_ast 7 48) from xs_astore hΓ dX1_outsiders_46 (Nat.le_of_ble_eq_true rfl)) rfl ?_
      refine xw_aldo (x := l3) (show xm_Imp g Γ 48 (xi_ald 3 49) from xs_aload_n hΓ dX1_outsiders_48) rfl ?_
      refine xw_aldo (x := v36) (show xm_Imp g Γ 49 (xi_ald 7 51) from xs_aload hΓ dX1_outsiders_49) rfl ?_
      obtain ⟨a37, ha37, e⟩ := e
      obtain ⟨_, e0, e⟩ := e
      obtain ⟨m38, m39, ⟨em1, em2⟩, e⟩ := e
      refine xw_tvi1 (o := l3) (show xm_Imp g Γ 51 (xi_vir g 2 M_X3_contains 6 1 54) from xs_invV hG hΓ k_X3_contains rfl (ci := 2) rfl q2764 q1216 q1217 dX1_outsiders_51) (by simp [xm_stk, xv_cat, xc_int, xc_long, xc_float, xc_double, xc_ref]) ha37 e0 em1 em2 (K_X3_contains hG a37 v36 _ _ _ e) (fun v41 h40 e => ?_)
      refine xw_if (show xm_Imp g Γ 54 (xi_if (fun x => x = 0) 57 69) from xs_if_ne hΓ dX1_outsiders_54 (by decide)) (fun c => ?_) (fun c => ?_)
      · rw [if_pos c] at e
        refine xw_aldo (x := l2) (show xm_Imp g Γ 57 (xi_ald 2 58) from xs_aload_n hΓ dX1_outsiders_57) rfl ?_
        refine xw_aldo (x := v36) (show xm_Imp g Γ 58 (xi_ald 7 60) from xs_aload hΓ dX1_outsiders_58) rfl ?_
        obtain ⟨a42, ha42, e⟩ := e
        obtain ⟨_, e0, e⟩ := e
        obtain ⟨m43, m44, ⟨em1, em2⟩, e⟩ := e
        refine xw_tvr0 (o := v36) (show xm_Imp g Γ 60 (xi_vir g 3 M_X4_word 3 0 63) from xs_invV hG hΓ k_X4_word rfl (ci := 3) rfl q2725 q2207 q2208 dX1_outsiders_60) (by simp [xm_stk, xv_cat, xc_int, xc_long, xc_float, xc_double, xc_ref]) ha42 e0 em1 em2 (K_X4_word hG a42 _ _ _ e) (fun v46 h45 e => ?_)
        obtain ⟨a47, ha47, e⟩ := e
        obtain ⟨_, e0, e⟩ := e
        obtain ⟨m48, m49, ⟨em1, em2⟩, e⟩ := e
        refine xw_tvi1 (o := l2) (show xm_Imp g Γ 63 (xi_vir g 21 M_J35_add 9 1 68) from xs_invF hG hΓ k_J35_add rfl (ci := 21) rfl q2805 q2811 q2809 ⟨by decide, by decide⟩ (by decide +kernel) q2807 q2806 q2812 q2810 q2808 dX1_outsiders_63) (by simp [xm_stk, xv_cat, xc_int, xc_long, xc_float, xc_double, xc_ref]) ha47 e0 em1 em2 (K_J35_add hG a47 v46 _ _ _ e) (fun v51 h50 e => ?_)
        refine xw_pop (show xm_Imp g Γ 68 (xi_pop 69) from xs_pop hΓ dX1_outsiders_68) rfl ?_
        exact xm_lx (hB_69 _ _ _ _ e) (And.intro rfl (And.intro rfl (And.intro rfl (And.intro rfl (And.intro rfl (And.intro rfl (trivial)))))))
      · rw [if_neg c] at e
        exact xm_lx (hB_69 _ _ _ _ e) (And.intro rfl (And.intro rfl (And.intro rfl (And.intro rfl (And.intro rfl (And.intro rfl (trivial)))))))
  unfold F_X1_outsiders at e
  refine xw_new (show xm_Imp g Γ 0 (xi_new 21 1 [.null] 3) from xs_new hG hΓ (ci := 21) rfl q2779 q2780 q171 rfl tyJ35 tyJ35_ok (xm_df 1 (by decide +kernel)) dX1_outsiders_0) e (fun a1 h2 b3 b4 e => ?_)
  refine xw_dup (show xm_Imp g Γ 3 (xi_dup 4) from xs_dup hΓ dX1_outsiders_3) rfl ?_
  obtain ⟨m5, m6, ⟨em1, em2⟩, e⟩ := e
  refine xw_tpu0 (o := (some a1)) (show xm_Imp g Γ 4 (xi_spe g M_J35_init 4 0 7) from xs_invI hG hΓ k_J35_init rfl q2781 q2782 rfl dX1_outsiders_4) rfl rfl em1 em2 (K_J35_init hG a1 _ _ _ e) (fun h7 e => ?_)
  refine xw_ast (ls' := [some (.ref p0), some (.int p1), some (.ref a1), none, none, none, none, none]) (show xm_Imp g Γ 7 (xi_ast 2 8) from xs_astore_n hΓ dX1_outsiders_7 (Nat.le_of_ble_eq_true rfl)) rfl ?_
  refine xw_ald (show xm_Imp g Γ 8 (xi_ald 0 9) from xs_aload_n hΓ dX1_outsiders_8) rfl ?_
  refine xw_ild (show xm_Imp g Γ 9 (xi_ild 1 10) from xs_iload_n hΓ dX1_outsiders_9) rfl ?_
  obtain ⟨_, e0, e⟩ := e
  obtain ⟨m9, m10, ⟨em1, em2⟩, e⟩ := e
  refine xw_tXvr1 (o := (some p0)) (show xm_Imp g Γ 10 (xi_virX g 0 M_X1_kept 9 1 13 X) from xs_invVX hG hΓ k_X1_kept rfl rfl (ci := 0) rfl q1944 q1946 qs39 dX1_outsiders_10) rfl rfl e0 em1 em2 (K_X1_kept hG p0 p1 _ _ _ e) (fun v12 h11 e => ?_)
  refine xw_asto (x := v12) (ls' := [some (.ref p0), some (.int p1), some (.ref a1), some (va_rf v12), none, none, none, none]) (show xm_Imp g Γ 13 (xi_ast 3 14) from xs_astore_n hΓ dX1_outsiders_13 (Nat.le_of_ble_eq_true rfl)) rfl ?_
  refine xw_ald (show xm_Imp g Γ 14 (xi_ald 0 15) from xs_aload_n hΓ dX1_outsiders_14) rfl ?_
  obtain ⟨v13, e1, e⟩ := e
  refine xw_gr1 (o := (some p0)) (show xm_Imp g Γ 15 (xi_get 0 0 18) from xs_get hG hΓ (ci := 0) (kf := 0) rfl (Nat.le_of_ble_eq_true rfl) q343 dX1_outsiders_15) rfl e1 ?_
  obtain ⟨a14, ha14, e⟩ := e
  obtain ⟨v15, e1, e⟩ := e
  refine xw_gr1 (o := v13) (show xm_Imp g Γ 18 (xi_get 1 0 21) from xs_getN hG hΓ (ci := 1) (kf := 0) rfl (Nat.le_of_ble_eq_true rfl) q276 dX1_outsiders_18) ha14 e1 ?_
  obtain ⟨a16, ha16, e⟩ := e
  obtain ⟨v17, e1, e⟩ := e
  refine xw_gr1 (o := v15) (show xm_Imp g Γ 21 (xi_get 2 0 24) from xs_getN hG hΓ (ci := 2) (kf := 0) rfl (Nat.le_of_ble_eq_true rfl) q271 dX1_outsiders_21) ha16 e1 ?_
  refine xw_asto (x := v17) (ls' := [some (.ref p0), some (.int p1), some (.ref a1), some (va_rf v12), some (va_rf v17), none, none, none]) (show xm_Imp g Γ 24 (xi_ast 4 26) from xs_astore hΓ dX1_outsiders_24 (Nat.le_of_ble_eq_true rfl)) ((xm_s1_o (o := v12) rfl).trans rfl) ?_
  refine xw_aldo (x := v17) (show xm_Imp g Γ 26 (xi_ald 4 28) from xs_aload hΓ dX1_outsiders_26) rfl ?_
  obtain ⟨a18, ha18, e⟩ := e
  obtain ⟨v19, e1, e⟩ := e
  refine xw_hlen (o := v17) (show xm_Imp g Γ 28 (xi_len 29) from xs_len hG hΓ dX1_outsiders_28) ha18 e1 ?_
  refine xw_ist (ls' := [some (.ref p0), some (.int p1), some (.ref a1), some (va_rf v12), some (va_rf v17), some (.int v19), none, none]) (show xm_Imp g Γ 29 (xi_ist 5 31) from xs_istore hΓ dX1_outsiders_29 (Nat.le_of_ble_eq_true rfl)) ((xm_s1_o (o := v17) rfl).trans rfl) ?_
  refine xw_psh (v := (.int (0))) (show xm_Imp g Γ 31 (xi_psh (.int (0)) 32) from xs_iconst hΓ dX1_outsiders_31 (by decide)) ?_
  refine xw_ist (ls' := [some (.ref p0), some (.int p1), some (.ref a1), some (va_rf v12), some (va_rf v17), some (.int v19), some (.int 0), none]) (show xm_Imp g Γ 32 (xi_ist 6 34) from xs_istore hΓ dX1_outsiders_32 (Nat.le_of_ble_eq_true rfl)) rfl ?_
  exact xm_lx (hL_34 _ _ _ _ _ _ e) (And.intro rfl (And.intro rfl (And.intro rfl (And.intro rfl (And.intro rfl (And.intro rfl (trivial)))))))
noncomputable def F_X1_innerSquare (g : xm_G) (p0 : Nat) (p1 : Int32) (h : xm_H) (bc : Nat) (bs : Nat) (Q : UInt32 → xm_H → Prop) (X : xm_X) : Prop :=
 xt_b (xh_is 0 h p0) (fun _ =>
 xt_c bc bs (fun m1 m2 => F_X1_overlap g p0 p1 h m1 m2 (fun v4 h3 =>
 (if v4 = ((-1) : Int32) then
 Q FP.fconst0 h3 else
 xt_b (xo_g (vf_n32 (FP.fdiv FP.fconst1 (FP.i2f (1 <<< (v4 &&& 31)))))) (fun u5 =>
 Q (FP.fdiv FP.fconst1 (FP.i2f (1 <<< (v4 &&& 31)))) h3))) X))
set_option maxHeartbeats 4000000 in
theorem K_X1_innerSquare {g : xm_G} (hG : xm_Gw g) (p0 : Nat) (p1 : Int32) (h : xm_H) (bc : Nat) (bs : Nat) {Q : UInt32 → xm_H → Prop} {X : xm_X} (e : F_X1_innerSquare g p0 p1 h bc bs Q X) : xm_Run g M_X1_innerSquare 11 [.ref p0, .int p1] h bc bs (fun v h' => ∃ r, v = some (.float r) ∧ Q r h') X := by
  refine xm_Run.of pn_StringTableau (Nat.le_of_ble_eq_true rfl) (fun Γ hΓ => ?_)
  show xm_W g Γ 0 [some (.ref p0), some (.int p1), none] [] h bc bs
  unfold F_X1_innerSquare at e
  refine xw_ald (show xm_Imp g Γ 0 (xi_ald 0 1) from xs_aload_n hΓ dX1_innerSquare_0) rfl ?_
  refine xw_ild (show xm_Imp g Γ 1 (xi_ild 1 2) from xs_iload_n hΓ dX1_innerSquare_1) rfl ?_
  obtain ⟨_, e0, e⟩ := e
  obtain ⟨m1, m2, ⟨em1, em2⟩, e⟩ := e
  refine xw_tXvi1 (o := (some p0)) (show xm_Imp g Γ 2 (xi_virX g 0 M_X1_overlap 10 1 5 X) from xs_invVX hG hΓ k_X1_overlap rfl rfl (ci := 0) rfl q2839 q2761 q2762 dX1_innerSquare_2) rfl rfl e0 em1 em2 (K_X1_overlap hG p0 p1 _ _ _ e) (fun v4 h3 e => ?_)
  refine xw_ist (ls' := [some (.ref p0), some (.int p1), some (.int v4)]) (show xm_Imp g Γ 5 (xi_ist 2 6) from xs_istore_n hΓ dX1_innerSquare_5 (Nat.le_of_ble_eq_true rfl)) rfl ?_
  refine xw_ild (show xm_Imp g Γ 6 (xi_ild 2 7) from xs_iload_n hΓ dX1_innerSquare_6) rfl ?_
  refine xw_psh (v := (.int (-1))) (show xm_Imp g Γ 7 (xi_psh (.int (-1)) 8) from xs_iconst hΓ dX1_innerSquare_7 (by decide)) ?_
  refine xw_ic (show xm_Imp g Γ 8 (xi_ic (fun x y => x = y) 11 15) from xs_icmp_ne hΓ dX1_innerSquare_8 (by decide)) (fun c => ?_) (fun c => ?_)
  · rw [if_pos c] at e
    refine xw_psh (v := (.float FP.fconst0)) (show xm_Imp g Γ 11 (xi_psh (.float FP.fconst0) 12) from xs_fconst0 hΓ dX1_innerSquare_11) ?_
    refine xw_goto (show xm_Imp g Γ 12 (xi_goto 21) from xs_goto hΓ dX1_innerSquare_12 (by decide)) ?_
    exact xw_fret (show xm_Imp g Γ 21 (xi_fret _) from xs_freturn hΓ rfl dX1_innerSquare_21) ⟨_, rfl, e⟩
  · rw [if_neg c] at e
    refine xw_psh (v := (.float FP.fconst1)) (show xm_Imp g Γ 15 (xi_psh (.float FP.fconst1) 16) from xs_fconst1 hΓ dX1_innerSquare_15) ?_
    refine xw_psh (v := (.int (1))) (show xm_Imp g Γ 16 (xi_psh (.int (1)) 17) from xs_iconst hΓ dX1_innerSquare_16 (by decide)) ?_
    refine xw_ild (show xm_Imp g Γ 17 (xi_ild 2 18) from xs_iload_n hΓ dX1_innerSquare_17) rfl ?_
    refine xw_ii (show xm_Imp g Γ 18 (xi_ii (fun x y => x <<< (y &&& 31)) 19) from xs_ishl hΓ dX1_innerSquare_18) ?_
    refine xw_i2f (show xm_Imp g Γ 19 (xi_i2f 20) from xs_i2f hΓ dX1_innerSquare_19) ?_
    obtain ⟨u5, e1, e⟩ := e
    refine xw_fdiv (show xm_Imp g Γ 20 (xi_fdiv 21) from xs_fdiv hΓ dX1_innerSquare_20) (xo_g_s e1) ?_
    exact xw_fret (show xm_Imp g Γ 21 (xi_fret _) from xs_freturn hΓ rfl dX1_innerSquare_21) ⟨_, rfl, e⟩
noncomputable def F_X0_operation (g : xm_G) (p0 : Option Nat) (p1 : Int32) (p2 : Int32) (p3 : Option Nat) (h : xm_H) (bc : Nat) (bs : Nat) (Q : Int32 → xm_H → Prop) : Prop :=
 xt_b p0 (fun a1 =>
 xt_b (xh_is 0 h a1) (fun _ =>
 xt_c bc bs (fun m2 m3 => F_X1_operation g a1 p1 p2 h m2 m3 (fun v5 h4 =>
 xt_b p3 (fun a6 =>
 xt_b (xh_sl h4 a6 0 v5.toInt64) (fun h7 =>
 Q 0 h7))) (fun E8 q9 h10 => xt_h E8 [("java/lang/IndexOutOfBoundsException", Q 1 h10)]))))
set_option maxHeartbeats 4000000 in
theorem K_X0_operation {g : xm_G} (hG : xm_Gw g) (p0 : Option Nat) (p1 : Int32) (p2 : Int32) (p3 : Option Nat) (h : xm_H) (bc : Nat) (bs : Nat) {Q : Int32 → xm_H → Prop} (e : F_X0_operation g p0 p1 p2 p3 h bc bs Q) : xm_Run g M_X0_operation 12 [va_rf p0, .int p1, .int p2, va_rf p3] h bc bs (fun v h' => ∃ r, v = some (.int r) ∧ Q r h') xm_no := by
  refine xm_Run.of2 (ls := [some (va_rf p0), some (.int p1), some (.int p2), some (va_rf p3), none]) pn_StringTableauLaw (by cases p0 <;> cases p3 <;> exact Nat.le_of_ble_eq_true rfl) (by cases p0 <;> cases p3 <;> rfl) (fun Γ hΓ => ?_)
  show xm_W g Γ 0 [some (va_rf p0), some (.int p1), some (.int p2), some (va_rf p3), none] [] h bc bs
  unfold F_X0_operation at e
  refine xw_aldo (x := p3) (show xm_Imp g Γ 0 (xi_ald 3 1) from xs_aload_n hΓ dX0_operation_0) rfl ?_
  refine xw_psh (v := (.int (0))) (show xm_Imp g Γ 1 (xi_psh (.int (0)) 2) from xs_iconst hΓ dX0_operation_1 (by decide)) ?_
  refine xw_aldo (x := p0) (show xm_Imp g Γ 2 (xi_ald 0 3) from xs_aload_n hΓ dX0_operation_2) rfl ?_
  refine xw_ild (show xm_Imp g Γ 3 (xi_ild 1 4) from xs_iload_n hΓ dX0_operation_3) rfl ?_
  refine xw_ild (show xm_Imp g Γ 4 (xi_ild 2 5) from xs_iload_n hΓ dX0_operation_4) rfl ?_
  obtain ⟨a1, ha1, e⟩ := e
  obtain ⟨_, e0, e⟩ := e
  obtain ⟨m2, m3, ⟨em1, em2⟩, e⟩ := e
  refine xw_tHvi2 (o := p0) (show xm_Imp g Γ 5 (xi_virH g 0 M_X1_operation 11 2 8 [("java/lang/IndexOutOfBoundsException", 13)]) from xs_invVH hG hΓ k_X1_operation rfl (hs0 := [("java/lang/IndexOutOfBoundsException", 13)]) (xm_cov1 (by decide) (by decide) q1830 (xm_covN _ _ _)) (ci := 0) rfl q1833 q1834 q1835 dX0_operation_5) (by simp [xm_stk, xv_cat, xc_int, xc_long, xc_float, xc_double, xc_ref]) ha1 e0 em1 em2 (K_X1_operation hG a1 p1 p2 _ _ _ e) (fun v5 h4 e => ?_) (fun E8 q9 h10 e => ?_)
  · refine xw_i2l (show xm_Imp g Γ 8 (xi_i2l 9) from xs_i2l hΓ dX0_operation_8) ?_
    obtain ⟨a6, ha6, e⟩ := e
    obtain ⟨h7, e1, e⟩ := e
    refine xw_hlas (o := p3) (show xm_Imp g Γ 9 (xi_las 10) from xs_las hG hΓ dX0_operation_9) ha6 e1 ?_
    refine xw_goto (show xm_Imp g Γ 10 (xi_goto 17) from xs_goto hΓ dX0_operation_10 (by decide)) ?_
    refine xw_psh (v := (.int (0))) (show xm_Imp g Γ 17 (xi_psh (.int (0)) 18) from xs_iconst hΓ dX0_operation_17 (by decide)) ?_
    exact xw_iret (show xm_Imp g Γ 18 (xi_iret .int _) from xs_ireturn hΓ rfl dX0_operation_18) (xn_int _) ⟨_, rfl, e⟩
  rcases e with ⟨ec, e⟩ | ⟨ec, e⟩
  · refine Or.inl ⟨ec, ?_⟩
    refine xw_ast (ls' := [some (va_rf p0), some (.int p1), some (.int p2), some (va_rf p3), some (.ref q9)]) (show xm_Imp g Γ 13 (xi_ast 4 15) from xs_astore hΓ dX0_operation_13 (Nat.le_of_ble_eq_true rfl)) ((xm_s1_o (o := p3) rfl).trans rfl) ?_
    refine xw_psh (v := (.int (1))) (show xm_Imp g Γ 15 (xi_psh (.int (1)) 16) from xs_iconst hΓ dX0_operation_15 (by decide)) ?_
    exact xw_iret (show xm_Imp g Γ 16 (xi_iret .int _) from xs_ireturn hΓ rfl dX0_operation_16) (xn_int _) ⟨_, rfl, e⟩
  refine Or.inr ⟨ec, ?_⟩
  exact e.elim
noncomputable def F_X0_gate (g : xm_G) (p0 : Option Nat) (p1 : Int32) (p2 : Int32) (p3 : Int32) (p4 : Option Nat) (h : xm_H) (bc : Nat) (bs : Nat) (Q : Int32 → xm_H → Prop) : Prop :=
 xt_b p0 (fun a1 =>
 xt_b (xh_is 0 h a1) (fun _ =>
 xt_c bc bs (fun m2 m3 => F_X1_gate g a1 p1 p2 p3 h m2 m3 (fun v5 h4 =>
 xt_b p4 (fun a6 =>
 xt_b (xh_sl h4 a6 0 v5.toInt64) (fun h7 =>
 Q 0 h7))) (fun E8 q9 h10 => xt_h E8 [("java/lang/IndexOutOfBoundsException", Q 1 h10), ("java/lang/IllegalArgumentException", Q 2 h10)]))))
set_option maxHeartbeats 4000000 in
theorem K_X0_gate {g : xm_G} (hG : xm_Gw g) (p0 : Option Nat) (p1 : Int32) (p2 : Int32) (p3 : Int32) (p4 : Option Nat) (h : xm_H) (bc : Nat) (bs : Nat) {Q : Int32 → xm_H → Prop} (e : F_X0_gate g p0 p1 p2 p3 p4 h bc bs Q) : xm_Run g M_X0_gate 14 [va_rf p0, .int p1, .int p2, .int p3, va_rf p4] h bc bs (fun v h' => ∃ r, v = some (.int r) ∧ Q r h') xm_no := by
  refine xm_Run.of2 (ls := [some (va_rf p0), some (.int p1), some (.int p2), some (.int p3), some (va_rf p4), none]) pn_StringTableauLaw (by cases p0 <;> cases p4 <;> exact Nat.le_of_ble_eq_true rfl) (by cases p0 <;> cases p4 <;> rfl) (fun Γ hΓ => ?_)
  show xm_W g Γ 0 [some (va_rf p0), some (.int p1), some (.int p2), some (.int p3), some (va_rf p4), none] [] h bc bs
  unfold F_X0_gate at e
  refine xw_aldo (x := p4) (show xm_Imp g Γ 0 (xi_ald 4 2) from xs_aload hΓ dX0_gate_0) rfl ?_
  refine xw_psh (v := (.int (0))) (show xm_Imp g Γ 2 (xi_psh (.int (0)) 3) from xs_iconst hΓ dX0_gate_2 (by decide)) ?_
  refine xw_aldo (x := p0) (show xm_Imp g Γ 3 (xi_ald 0 4) from xs_aload_n hΓ dX0_gate_3) rfl ?_
  refine xw_ild (show xm_Imp g Γ 4 (xi_ild 1 5) from xs_iload_n hΓ dX0_gate_4) rfl ?_
  refine xw_ild (show xm_Imp g Γ 5 (xi_ild 2 6) from xs_iload_n hΓ dX0_gate_5) rfl ?_
  refine xw_ild (show xm_Imp g Γ 6 (xi_ild 3 7) from xs_iload_n hΓ dX0_gate_6) rfl ?_
  obtain ⟨a1, ha1, e⟩ := e
  obtain ⟨_, e0, e⟩ := e
  obtain ⟨m2, m3, ⟨em1, em2⟩, e⟩ := e
  refine xw_tHvi3 (o := p0) (show xm_Imp g Γ 7 (xi_virH g 0 M_X1_gate 13 3 10 [("java/lang/IndexOutOfBoundsException", 15), ("java/lang/IllegalArgumentException", 19)]) from xs_invVH hG hΓ k_X1_gate rfl (hs0 := [("java/lang/IndexOutOfBoundsException", 15), ("java/lang/IllegalArgumentException", 19)]) (xm_cov1 (by decide) (by decide) q1830 (xm_cov1 (by decide) (by decide) q1858 (xm_covN _ _ _))) (ci := 0) rfl q1859 q1860 q1861 dX0_gate_7) (by simp [xm_stk, xv_cat, xc_int, xc_long, xc_float, xc_double, xc_ref]) ha1 e0 em1 em2 (K_X1_gate hG a1 p1 p2 p3 _ _ _ e) (fun v5 h4 e => ?_) (fun E8 q9 h10 e => ?_)
  · refine xw_i2l (show xm_Imp g Γ 10 (xi_i2l 11) from xs_i2l hΓ dX0_gate_10) ?_
    obtain ⟨a6, ha6, e⟩ := e
    obtain ⟨h7, e1, e⟩ := e
    refine xw_hlas (o := p4) (show xm_Imp g Γ 11 (xi_las 12) from xs_las hG hΓ dX0_gate_11) ha6 e1 ?_
    refine xw_goto (show xm_Imp g Γ 12 (xi_goto 23) from xs_goto hΓ dX0_gate_12 (by decide)) ?_
    refine xw_psh (v := (.int (0))) (show xm_Imp g Γ 23 (xi_psh (.int (0)) 24) from xs_iconst hΓ dX0_gate_23 (by decide)) ?_
    exact xw_iret (show xm_Imp g Γ 24 (xi_iret .int _) from xs_ireturn hΓ rfl dX0_gate_24) (xn_int _) ⟨_, rfl, e⟩
  rcases e with ⟨ec, e⟩ | ⟨ec, e⟩
  · refine Or.inl ⟨ec, ?_⟩
    refine xw_ast (ls' := [some (va_rf p0), some (.int p1), some (.int p2), some (.int p3), some (va_rf p4), some (.ref q9)]) (show xm_Imp g Γ 15 (xi_ast 5 17) from xs_astore hΓ dX0_gate_15 (Nat.le_of_ble_eq_true rfl)) ((xm_s1_o (o := p4) rfl).trans rfl) ?_
    refine xw_psh (v := (.int (1))) (show xm_Imp g Γ 17 (xi_psh (.int (1)) 18) from xs_iconst hΓ dX0_gate_17 (by decide)) ?_
    exact xw_iret (show xm_Imp g Γ 18 (xi_iret .int _) from xs_ireturn hΓ rfl dX0_gate_18) (xn_int _) ⟨_, rfl, e⟩
  refine Or.inr ⟨ec, ?_⟩
  rcases e with ⟨ec, e⟩ | ⟨ec, e⟩
  · refine Or.inl ⟨ec, ?_⟩
    refine xw_ast (ls' := [some (va_rf p0), some (.int p1), some (.int p2), some (.int p3), some (va_rf p4), some (.ref q9)]) (show xm_Imp g Γ 19 (xi_ast 5 21) from xs_astore hΓ dX0_gate_19 (Nat.le_of_ble_eq_true rfl)) ((xm_s1_o (o := p4) rfl).trans rfl) ?_
    refine xw_psh (v := (.int (2))) (show xm_Imp g Γ 21 (xi_psh (.int (2)) 22) from xs_iconst hΓ dX0_gate_21 (by decide)) ?_
    exact xw_iret (show xm_Imp g Γ 22 (xi_iret .int _) from xs_ireturn hΓ rfl dX0_gate_22) (xn_int _) ⟨_, rfl, e⟩
  refine Or.inr ⟨ec, ?_⟩
  exact e.elim
noncomputable def F_X0_measure (g : xm_G) (p0 : Option Nat) (p1 : Int32) (p2 : Int32) (p3 : Int32) (p4 : Int32) (p5 : Option Nat) (h : xm_H) (bc : Nat) (bs : Nat) (Q : Int32 → xm_H → Prop) : Prop :=
 xt_b p0 (fun a1 =>
 xt_b (xh_is 0 h a1) (fun _ =>
 xt_c bc bs (fun m2 m3 => F_X1_measure g a1 p1 p2 p3 p4 h m2 m3 (fun v5 h4 =>
 xt_b p5 (fun a6 =>
 xt_b (xh_sl h4 a6 0 v5.toInt64) (fun h7 =>
 Q 0 h7))) (fun E8 q9 h10 => xt_h E8 [("java/lang/IllegalArgumentException", Q 1 h10), ("java/lang/IllegalStateException", Q 2 h10)]))))
set_option maxHeartbeats 4000000 in
theorem K_X0_measure {g : xm_G} (hG : xm_Gw g) (p0 : Option Nat) (p1 : Int32) (p2 : Int32) (p3 : Int32) (p4 : Int32) (p5 : Option Nat) (h : xm_H) (bc : Nat) (bs : Nat) {Q : Int32 → xm_H → Prop} (e : F_X0_measure g p0 p1 p2 p3 p4 p5 h bc bs Q) : xm_Run g M_X0_measure 14 [va_rf p0, .int p1, .int p2, .int p3, .int p4, va_rf p5] h bc bs (fun v h' => ∃ r, v = some (.int r) ∧ Q r h') xm_no := by
  refine xm_Run.of2 (ls := [some (va_rf p0), some (.int p1), some (.int p2), some (.int p3), some (.int p4), some (va_rf p5), none]) pn_StringTableauLaw (by cases p0 <;> cases p5 <;> exact Nat.le_of_ble_eq_true rfl) (by cases p0 <;> cases p5 <;> rfl) (fun Γ hΓ => ?_)
  show xm_W g Γ 0 [some (va_rf p0), some (.int p1), some (.int p2), some (.int p3), some (.int p4), some (va_rf p5), none] [] h bc bs
  unfold F_X0_measure at e
  refine xw_aldo (x := p5) (show xm_Imp g Γ 0 (xi_ald 5 2) from xs_aload hΓ dX0_measure_0) rfl ?_
  refine xw_psh (v := (.int (0))) (show xm_Imp g Γ 2 (xi_psh (.int (0)) 3) from xs_iconst hΓ dX0_measure_2 (by decide)) ?_
  refine xw_aldo (x := p0) (show xm_Imp g Γ 3 (xi_ald 0 4) from xs_aload_n hΓ dX0_measure_3) rfl ?_
  refine xw_ild (show xm_Imp g Γ 4 (xi_ild 1 5) from xs_iload_n hΓ dX0_measure_4) rfl ?_
  refine xw_ild (show xm_Imp g Γ 5 (xi_ild 2 6) from xs_iload_n hΓ dX0_measure_5) rfl ?_
  refine xw_ild (show xm_Imp g Γ 6 (xi_ild 3 7) from xs_iload_n hΓ dX0_measure_6) rfl ?_
  refine xw_ild (show xm_Imp g Γ 7 (xi_ild 4 9) from xs_iload hΓ dX0_measure_7) rfl ?_
  obtain ⟨a1, ha1, e⟩ := e
  obtain ⟨_, e0, e⟩ := e
  obtain ⟨m2, m3, ⟨em1, em2⟩, e⟩ := e
  refine xw_tHvi4 (o := p0) (show xm_Imp g Γ 9 (xi_virH g 0 M_X1_measure 13 4 12 [("java/lang/IllegalArgumentException", 17), ("java/lang/IllegalStateException", 21)]) from xs_invVH hG hΓ k_X1_measure rfl (hs0 := [("java/lang/IllegalArgumentException", 17), ("java/lang/IllegalStateException", 21)]) (xm_cov1 (by decide) (by decide) q1858 (xm_cov1 (by decide) (by decide) q1880 (xm_covN _ _ _))) (ci := 0) rfl q1881 q1882 q1883 dX0_measure_9) (by simp [xm_stk, xv_cat, xc_int, xc_long, xc_float, xc_double, xc_ref]) ha1 e0 em1 em2 (K_X1_measure hG a1 p1 p2 p3 p4 _ _ _ e) (fun v5 h4 e => ?_) (fun E8 q9 h10 e => ?_)
  · refine xw_i2l (show xm_Imp g Γ 12 (xi_i2l 13) from xs_i2l hΓ dX0_measure_12) ?_
    obtain ⟨a6, ha6, e⟩ := e
    obtain ⟨h7, e1, e⟩ := e
    refine xw_hlas (o := p5) (show xm_Imp g Γ 13 (xi_las 14) from xs_las hG hΓ dX0_measure_13) ha6 e1 ?_
    refine xw_goto (show xm_Imp g Γ 14 (xi_goto 25) from xs_goto hΓ dX0_measure_14 (by decide)) ?_
    refine xw_psh (v := (.int (0))) (show xm_Imp g Γ 25 (xi_psh (.int (0)) 26) from xs_iconst hΓ dX0_measure_25 (by decide)) ?_
    exact xw_iret (show xm_Imp g Γ 26 (xi_iret .int _) from xs_ireturn hΓ rfl dX0_measure_26) (xn_int _) ⟨_, rfl, e⟩
  rcases e with ⟨ec, e⟩ | ⟨ec, e⟩
  · refine Or.inl ⟨ec, ?_⟩
    refine xw_ast (ls' := [some (va_rf p0), some (.int p1), some (.int p2), some (.int p3), some (.int p4), some (va_rf p5), some (.ref q9)]) (show xm_Imp g Γ 17 (xi_ast 6 19) from xs_astore hΓ dX0_measure_17 (Nat.le_of_ble_eq_true rfl)) ((xm_s1_o (o := p5) rfl).trans rfl) ?_
    refine xw_psh (v := (.int (1))) (show xm_Imp g Γ 19 (xi_psh (.int (1)) 20) from xs_iconst hΓ dX0_measure_19 (by decide)) ?_
    exact xw_iret (show xm_Imp g Γ 20 (xi_iret .int _) from xs_ireturn hΓ rfl dX0_measure_20) (xn_int _) ⟨_, rfl, e⟩
  refine Or.inr ⟨ec, ?_⟩
  rcases e with ⟨ec, e⟩ | ⟨ec, e⟩
  · refine Or.inl ⟨ec, ?_⟩
    refine xw_ast (ls' := [some (va_rf p0), some (.int p1), some (.int p2), some (.int p3), some (.int p4), some (va_rf p5), some (.ref q9)]) (show xm_Imp g Γ 21 (xi_ast 6 23) from xs_astore hΓ dX0_measure_21 (Nat.le_of_ble_eq_true rfl)) ((xm_s1_o (o := p5) rfl).trans rfl) ?_
    refine xw_psh (v := (.int (2))) (show xm_Imp g Γ 23 (xi_psh (.int (2)) 24) from xs_iconst hΓ dX0_measure_23 (by decide)) ?_
    exact xw_iret (show xm_Imp g Γ 24 (xi_iret .int _) from xs_ireturn hΓ rfl dX0_measure_24) (xn_int _) ⟨_, rfl, e⟩
  refine Or.inr ⟨ec, ?_⟩
  exact e.elim
noncomputable def F_X0_measureAll (g : xm_G) (p0 : Option Nat) (p1 : Option Nat) (h : xm_H) (bc : Nat) (bs : Nat) (Q : Int32 → xm_H → Prop) : Prop :=
 xt_b p0 (fun a1 =>
 xt_b (xh_is 0 h a1) (fun _ =>
 xt_c bc bs (fun m2 m3 => F_X1_measureAll g a1 h m2 m3 (fun v5 h4 =>
 xt_b p1 (fun a6 =>
 xt_b (xh_sl h4 a6 0 v5.toInt64) (fun h7 =>
 Q 0 h7))) (fun E8 q9 h10 => xt_h E8 [("java/lang/IllegalStateException", Q 1 h10)]))))
set_option maxHeartbeats 4000000 in
theorem K_X0_measureAll {g : xm_G} (hG : xm_Gw g) (p0 : Option Nat) (p1 : Option Nat) (h : xm_H) (bc : Nat) (bs : Nat) {Q : Int32 → xm_H → Prop} (e : F_X0_measureAll g p0 p1 h bc bs Q) : xm_Run g M_X0_measureAll 14 [va_rf p0, va_rf p1] h bc bs (fun v h' => ∃ r, v = some (.int r) ∧ Q r h') xm_no := by
  refine xm_Run.of2 (ls := [some (va_rf p0), some (va_rf p1), none]) pn_StringTableauLaw (by cases p0 <;> cases p1 <;> exact Nat.le_of_ble_eq_true rfl) (by cases p0 <;> cases p1 <;> rfl) (fun Γ hΓ => ?_)
  show xm_W g Γ 0 [some (va_rf p0), some (va_rf p1), none] [] h bc bs
  unfold F_X0_measureAll at e
  refine xw_aldo (x := p1) (show xm_Imp g Γ 0 (xi_ald 1 1) from xs_aload_n hΓ dX0_measureAll_0) rfl ?_
  refine xw_psh (v := (.int (0))) (show xm_Imp g Γ 1 (xi_psh (.int (0)) 2) from xs_iconst hΓ dX0_measureAll_1 (by decide)) ?_
  refine xw_aldo (x := p0) (show xm_Imp g Γ 2 (xi_ald 0 3) from xs_aload_n hΓ dX0_measureAll_2) rfl ?_
  obtain ⟨a1, ha1, e⟩ := e
  obtain ⟨_, e0, e⟩ := e
  obtain ⟨m2, m3, ⟨em1, em2⟩, e⟩ := e
  refine xw_tHvi0 (o := p0) (show xm_Imp g Γ 3 (xi_virH g 0 M_X1_measureAll 13 0 6 [("java/lang/IllegalStateException", 11)]) from xs_invVH hG hΓ k_X1_measureAll rfl (hs0 := [("java/lang/IllegalStateException", 11)]) (xm_cov1 (by decide) (by decide) q1880 (xm_covN _ _ _)) (ci := 0) rfl q1903 q1904 q1905 dX0_measureAll_3) (by simp [xm_stk, xv_cat, xc_int, xc_long, xc_float, xc_double, xc_ref]) ha1 e0 em1 em2 (K_X1_measureAll hG a1 _ _ _ e) (fun v5 h4 e => ?_) (fun E8 q9 h10 e => ?_)
  · refine xw_i2l (show xm_Imp g Γ 6 (xi_i2l 7) from xs_i2l hΓ dX0_measureAll_6) ?_
    obtain ⟨a6, ha6, e⟩ := e
    obtain ⟨h7, e1, e⟩ := e
    refine xw_hlas (o := p1) (show xm_Imp g Γ 7 (xi_las 8) from xs_las hG hΓ dX0_measureAll_7) ha6 e1 ?_
    refine xw_goto (show xm_Imp g Γ 8 (xi_goto 14) from xs_goto hΓ dX0_measureAll_8 (by decide)) ?_
    refine xw_psh (v := (.int (0))) (show xm_Imp g Γ 14 (xi_psh (.int (0)) 15) from xs_iconst hΓ dX0_measureAll_14 (by decide)) ?_
    exact xw_iret (show xm_Imp g Γ 15 (xi_iret .int _) from xs_ireturn hΓ rfl dX0_measureAll_15) (xn_int _) ⟨_, rfl, e⟩
  rcases e with ⟨ec, e⟩ | ⟨ec, e⟩
  · refine Or.inl ⟨ec, ?_⟩
    refine xw_ast (ls' := [some (va_rf p0), some (va_rf p1), some (.ref q9)]) (show xm_Imp g Γ 11 (xi_ast 2 12) from xs_astore_n hΓ dX0_measureAll_11 (Nat.le_of_ble_eq_true rfl)) ((xm_s1_o (o := p1) rfl).trans rfl) ?_
    refine xw_psh (v := (.int (1))) (show xm_Imp g Γ 12 (xi_psh (.int (1)) 13) from xs_iconst hΓ dX0_measureAll_12 (by decide)) ?_
    exact xw_iret (show xm_Imp g Γ 13 (xi_iret .int _) from xs_ireturn hΓ rfl dX0_measureAll_13) (xn_int _) ⟨_, rfl, e⟩
  refine Or.inr ⟨ec, ?_⟩
  exact e.elim
noncomputable def F_X0_run (g : xm_G) (p0 : Option Nat) (p1 : Int32) (p2 : Option Nat) (h : xm_H) (bc : Nat) (bs : Nat) (Q : Int32 → xm_H → Prop) : Prop :=
 xt_b p0 (fun a1 =>
 xt_b (xh_is 0 h a1) (fun _ =>
 xt_c bc bs (fun m2 m3 => F_X1_run g a1 p1 h m2 m3 (fun v5 h4 =>
 xt_b p2 (fun a6 =>
 xt_b (xh_sl h4 a6 0 v5.toInt64) (fun h7 =>
 Q 0 h7))) (fun E8 q9 h10 => xt_h E8 [("java/lang/IllegalArgumentException", Q 1 h10)]))))
set_option maxHeartbeats 4000000 in
theorem K_X0_run {g : xm_G} (hG : xm_Gw g) (p0 : Option Nat) (p1 : Int32) (p2 : Option Nat) (h : xm_H) (bc : Nat) (bs : Nat) {Q : Int32 → xm_H → Prop} (e : F_X0_run g p0 p1 p2 h bc bs Q) : xm_Run g M_X0_run 16 [va_rf p0, .int p1, va_rf p2] h bc bs (fun v h' => ∃ r, v = some (.int r) ∧ Q r h') xm_no := by
  refine xm_Run.of2 (ls := [some (va_rf p0), some (.int p1), some (va_rf p2), none]) pn_StringTableauLaw (by cases p0 <;> cases p2 <;> exact Nat.le_of_ble_eq_true rfl) (by cases p0 <;> cases p2 <;> rfl) (fun Γ hΓ => ?_)
  show xm_W g Γ 0 [some (va_rf p0), some (.int p1), some (va_rf p2), none] [] h bc bs
  unfold F_X0_run at e
  refine xw_aldo (x := p2) (show xm_Imp g Γ 0 (xi_ald 2 1) from xs_aload_n hΓ dX0_run_0) rfl ?_
  refine xw_psh (v := (.int (0))) (show xm_Imp g Γ 1 (xi_psh (.int (0)) 2) from xs_iconst hΓ dX0_run_1 (by decide)) ?_
  refine xw_aldo (x := p0) (show xm_Imp g Γ 2 (xi_ald 0 3) from xs_aload_n hΓ dX0_run_2) rfl ?_
  refine xw_ild (show xm_Imp g Γ 3 (xi_ild 1 4) from xs_iload_n hΓ dX0_run_3) rfl ?_
  obtain ⟨a1, ha1, e⟩ := e
  obtain ⟨_, e0, e⟩ := e
  obtain ⟨m2, m3, ⟨em1, em2⟩, e⟩ := e
  refine xw_tHvi1 (o := p0) (show xm_Imp g Γ 4 (xi_virH g 0 M_X1_run 15 1 7 [("java/lang/IllegalArgumentException", 12)]) from xs_invVH hG hΓ k_X1_run rfl (hs0 := [("java/lang/IllegalArgumentException", 12)]) (xm_cov1 (by decide) (by decide) q1858 (xm_covN _ _ _)) (ci := 0) rfl q1910 q1911 q1912 dX0_run_4) (by simp [xm_stk, xv_cat, xc_int, xc_long, xc_float, xc_double, xc_ref]) ha1 e0 em1 em2 (K_X1_run hG a1 p1 _ _ _ e) (fun v5 h4 e => ?_) (fun E8 q9 h10 e => ?_)
  · refine xw_i2l (show xm_Imp g Γ 7 (xi_i2l 8) from xs_i2l hΓ dX0_run_7) ?_
    obtain ⟨a6, ha6, e⟩ := e
    obtain ⟨h7, e1, e⟩ := e
    refine xw_hlas (o := p2) (show xm_Imp g Γ 8 (xi_las 9) from xs_las hG hΓ dX0_run_8) ha6 e1 ?_
    refine xw_goto (show xm_Imp g Γ 9 (xi_goto 15) from xs_goto hΓ dX0_run_9 (by decide)) ?_
    refine xw_psh (v := (.int (0))) (show xm_Imp g Γ 15 (xi_psh (.int (0)) 16) from xs_iconst hΓ dX0_run_15 (by decide)) ?_
    exact xw_iret (show xm_Imp g Γ 16 (xi_iret .int _) from xs_ireturn hΓ rfl dX0_run_16) (xn_int _) ⟨_, rfl, e⟩
  rcases e with ⟨ec, e⟩ | ⟨ec, e⟩
  · refine Or.inl ⟨ec, ?_⟩
    refine xw_ast (ls' := [some (va_rf p0), some (.int p1), some (va_rf p2), some (.ref q9)]) (show xm_Imp g Γ 12 (xi_ast 3 13) from xs_astore_n hΓ dX0_run_12 (Nat.le_of_ble_eq_true rfl)) ((xm_s1_o (o := p2) rfl).trans rfl) ?_
    refine xw_psh (v := (.int (1))) (show xm_Imp g Γ 13 (xi_psh (.int (1)) 14) from xs_iconst hΓ dX0_run_13 (by decide)) ?_
    exact xw_iret (show xm_Imp g Γ 14 (xi_iret .int _) from xs_ireturn hΓ rfl dX0_run_14) (xn_int _) ⟨_, rfl, e⟩
  refine Or.inr ⟨ec, ?_⟩
  exact e.elim
noncomputable def F_X0_reverse (g : xm_G) (p0 : Option Nat) (p1 : Int32) (p2 : Option Nat) (h : xm_H) (bc : Nat) (bs : Nat) (Q : Int32 → xm_H → Prop) : Prop :=
 xt_b p0 (fun a1 =>
 xt_b (xh_is 0 h a1) (fun _ =>
 xt_c bc bs (fun m2 m3 => F_X1_reverse g a1 p1 h m2 m3 (fun v5 h4 =>
 xt_b p2 (fun a6 =>
 xt_b (xh_sl h4 a6 0 v5.toInt64) (fun h7 =>
 Q 0 h7))) (fun E8 q9 h10 => xt_h E8 [("java/lang/IllegalArgumentException", Q 1 h10), ("java/lang/IllegalStateException", Q 2 h10)]))))
set_option maxHeartbeats 4000000 in
theorem K_X0_reverse {g : xm_G} (hG : xm_Gw g) (p0 : Option Nat) (p1 : Int32) (p2 : Option Nat) (h : xm_H) (bc : Nat) (bs : Nat) {Q : Int32 → xm_H → Prop} (e : F_X0_reverse g p0 p1 p2 h bc bs Q) : xm_Run g M_X0_reverse 14 [va_rf p0, .int p1, va_rf p2] h bc bs (fun v h' => ∃ r, v = some (.int r) ∧ Q r h') xm_no := by
  refine xm_Run.of2 (ls := [some (va_rf p0), some (.int p1), some (va_rf p2), none]) pn_StringTableauLaw (by cases p0 <;> cases p2 <;> exact Nat.le_of_ble_eq_true rfl) (by cases p0 <;> cases p2 <;> rfl) (fun Γ hΓ => ?_)
  show xm_W g Γ 0 [some (va_rf p0), some (.int p1), some (va_rf p2), none] [] h bc bs
  unfold F_X0_reverse at e
  refine xw_aldo (x := p2) (show xm_Imp g Γ 0 (xi_ald 2 1) from xs_aload_n hΓ dX0_reverse_0) rfl ?_
  refine xw_psh (v := (.int (0))) (show xm_Imp g Γ 1 (xi_psh (.int (0)) 2) from xs_iconst hΓ dX0_reverse_1 (by decide)) ?_
  refine xw_aldo (x := p0) (show xm_Imp g Γ 2 (xi_ald 0 3) from xs_aload_n hΓ dX0_reverse_2) rfl ?_
  refine xw_ild (show xm_Imp g Γ 3 (xi_ild 1 4) from xs_iload_n hΓ dX0_reverse_3) rfl ?_
  obtain ⟨a1, ha1, e⟩ := e
  obtain ⟨_, e0, e⟩ := e
  obtain ⟨m2, m3, ⟨em1, em2⟩, e⟩ := e
  refine xw_tHvi1 (o := p0) (show xm_Imp g Γ 4 (xi_virH g 0 M_X1_reverse 13 1 7 [("java/lang/IllegalArgumentException", 12), ("java/lang/IllegalStateException", 15)]) from xs_invVH hG hΓ k_X1_reverse rfl (hs0 := [("java/lang/IllegalArgumentException", 12), ("java/lang/IllegalStateException", 15)]) (xm_cov1 (by decide) (by decide) q1858 (xm_cov1 (by decide) (by decide) q1880 (xm_covN _ _ _))) (ci := 0) rfl q1917 q1918 q1919 dX0_reverse_4) (by simp [xm_stk, xv_cat, xc_int, xc_long, xc_float, xc_double, xc_ref]) ha1 e0 em1 em2 (K_X1_reverse hG a1 p1 _ _ _ e) (fun v5 h4 e => ?_) (fun E8 q9 h10 e => ?_)
  · refine xw_i2l (show xm_Imp g Γ 7 (xi_i2l 8) from xs_i2l hΓ dX0_reverse_7) ?_
    obtain ⟨a6, ha6, e⟩ := e
    obtain ⟨h7, e1, e⟩ := e
    refine xw_hlas (o := p2) (show xm_Imp g Γ 8 (xi_las 9) from xs_las hG hΓ dX0_reverse_8) ha6 e1 ?_
    refine xw_goto (show xm_Imp g Γ 9 (xi_goto 18) from xs_goto hΓ dX0_reverse_9 (by decide)) ?_
    refine xw_psh (v := (.int (0))) (show xm_Imp g Γ 18 (xi_psh (.int (0)) 19) from xs_iconst hΓ dX0_reverse_18 (by decide)) ?_
    exact xw_iret (show xm_Imp g Γ 19 (xi_iret .int _) from xs_ireturn hΓ rfl dX0_reverse_19) (xn_int _) ⟨_, rfl, e⟩
  rcases e with ⟨ec, e⟩ | ⟨ec, e⟩
  · refine Or.inl ⟨ec, ?_⟩
    refine xw_ast (ls' := [some (va_rf p0), some (.int p1), some (va_rf p2), some (.ref q9)]) (show xm_Imp g Γ 12 (xi_ast 3 13) from xs_astore_n hΓ dX0_reverse_12 (Nat.le_of_ble_eq_true rfl)) ((xm_s1_o (o := p2) rfl).trans rfl) ?_
    refine xw_psh (v := (.int (1))) (show xm_Imp g Γ 13 (xi_psh (.int (1)) 14) from xs_iconst hΓ dX0_reverse_13 (by decide)) ?_
    exact xw_iret (show xm_Imp g Γ 14 (xi_iret .int _) from xs_ireturn hΓ rfl dX0_reverse_14) (xn_int _) ⟨_, rfl, e⟩
  refine Or.inr ⟨ec, ?_⟩
  rcases e with ⟨ec, e⟩ | ⟨ec, e⟩
  · refine Or.inl ⟨ec, ?_⟩
    refine xw_ast (ls' := [some (va_rf p0), some (.int p1), some (va_rf p2), some (.ref q9)]) (show xm_Imp g Γ 15 (xi_ast 3 16) from xs_astore_n hΓ dX0_reverse_15 (Nat.le_of_ble_eq_true rfl)) ((xm_s1_o (o := p2) rfl).trans rfl) ?_
    refine xw_psh (v := (.int (2))) (show xm_Imp g Γ 16 (xi_psh (.int (2)) 17) from xs_iconst hΓ dX0_reverse_16 (by decide)) ?_
    exact xw_iret (show xm_Imp g Γ 17 (xi_iret .int _) from xs_ireturn hΓ rfl dX0_reverse_17) (xn_int _) ⟨_, rfl, e⟩
  refine Or.inr ⟨ec, ?_⟩
  exact e.elim
noncomputable def F_X0_goBack (g : xm_G) (p0 : Option Nat) (p1 : Int32) (p2 : Option Nat) (h : xm_H) (bc : Nat) (bs : Nat) (Q : Int32 → xm_H → Prop) : Prop :=
 xt_b p0 (fun a1 =>
 xt_b (xh_is 0 h a1) (fun _ =>
 xt_c bc bs (fun m2 m3 => F_X1_goBack g a1 p1 h m2 m3 (fun v5 h4 =>
 xt_b p2 (fun a6 =>
 xt_b (xh_sl h4 a6 0 v5.toInt64) (fun h7 =>
 Q 0 h7))) (fun E8 q9 h10 => xt_h E8 [("java/lang/IndexOutOfBoundsException", Q 1 h10), ("java/lang/IllegalStateException", Q 2 h10)]))))
set_option maxHeartbeats 4000000 in
theorem K_X0_goBack {g : xm_G} (hG : xm_Gw g) (p0 : Option Nat) (p1 : Int32) (p2 : Option Nat) (h : xm_H) (bc : Nat) (bs : Nat) {Q : Int32 → xm_H → Prop} (e : F_X0_goBack g p0 p1 p2 h bc bs Q) : xm_Run g M_X0_goBack 15 [va_rf p0, .int p1, va_rf p2] h bc bs (fun v h' => ∃ r, v = some (.int r) ∧ Q r h') xm_no := by
  refine xm_Run.of2 (ls := [some (va_rf p0), some (.int p1), some (va_rf p2), none]) pn_StringTableauLaw (by cases p0 <;> cases p2 <;> exact Nat.le_of_ble_eq_true rfl) (by cases p0 <;> cases p2 <;> rfl) (fun Γ hΓ => ?_)
  show xm_W g Γ 0 [some (va_rf p0), some (.int p1), some (va_rf p2), none] [] h bc bs
  unfold F_X0_goBack at e
  refine xw_aldo (x := p2) (show xm_Imp g Γ 0 (xi_ald 2 1) from xs_aload_n hΓ dX0_goBack_0) rfl ?_
  refine xw_psh (v := (.int (0))) (show xm_Imp g Γ 1 (xi_psh (.int (0)) 2) from xs_iconst hΓ dX0_goBack_1 (by decide)) ?_
  refine xw_aldo (x := p0) (show xm_Imp g Γ 2 (xi_ald 0 3) from xs_aload_n hΓ dX0_goBack_2) rfl ?_
  refine xw_ild (show xm_Imp g Γ 3 (xi_ild 1 4) from xs_iload_n hΓ dX0_goBack_3) rfl ?_
  obtain ⟨a1, ha1, e⟩ := e
  obtain ⟨_, e0, e⟩ := e
  obtain ⟨m2, m3, ⟨em1, em2⟩, e⟩ := e
  refine xw_tHvi1 (o := p0) (show xm_Imp g Γ 4 (xi_virH g 0 M_X1_goBack 14 1 7 [("java/lang/IndexOutOfBoundsException", 12), ("java/lang/IllegalStateException", 15)]) from xs_invVH hG hΓ k_X1_goBack rfl (hs0 := [("java/lang/IndexOutOfBoundsException", 12), ("java/lang/IllegalStateException", 15)]) (xm_cov1 (by decide) (by decide) q1830 (xm_cov1 (by decide) (by decide) q1880 (xm_covN _ _ _))) (ci := 0) rfl q1940 q1941 q1942 dX0_goBack_4) (by simp [xm_stk, xv_cat, xc_int, xc_long, xc_float, xc_double, xc_ref]) ha1 e0 em1 em2 (K_X1_goBack hG a1 p1 _ _ _ e) (fun v5 h4 e => ?_) (fun E8 q9 h10 e => ?_)
  · refine xw_i2l (show xm_Imp g Γ 7 (xi_i2l 8) from xs_i2l hΓ dX0_goBack_7) ?_
    obtain ⟨a6, ha6, e⟩ := e
    obtain ⟨h7, e1, e⟩ := e
    refine xw_hlas (o := p2) (show xm_Imp g Γ 8 (xi_las 9) from xs_las hG hΓ dX0_goBack_8) ha6 e1 ?_
    refine xw_goto (show xm_Imp g Γ 9 (xi_goto 18) from xs_goto hΓ dX0_goBack_9 (by decide)) ?_
    refine xw_psh (v := (.int (0))) (show xm_Imp g Γ 18 (xi_psh (.int (0)) 19) from xs_iconst hΓ dX0_goBack_18 (by decide)) ?_
    exact xw_iret (show xm_Imp g Γ 19 (xi_iret .int _) from xs_ireturn hΓ rfl dX0_goBack_19) (xn_int _) ⟨_, rfl, e⟩
  rcases e with ⟨ec, e⟩ | ⟨ec, e⟩
  · refine Or.inl ⟨ec, ?_⟩
    refine xw_ast (ls' := [some (va_rf p0), some (.int p1), some (va_rf p2), some (.ref q9)]) (show xm_Imp g Γ 12 (xi_ast 3 13) from xs_astore_n hΓ dX0_goBack_12 (Nat.le_of_ble_eq_true rfl)) ((xm_s1_o (o := p2) rfl).trans rfl) ?_
    refine xw_psh (v := (.int (1))) (show xm_Imp g Γ 13 (xi_psh (.int (1)) 14) from xs_iconst hΓ dX0_goBack_13 (by decide)) ?_
    exact xw_iret (show xm_Imp g Γ 14 (xi_iret .int _) from xs_ireturn hΓ rfl dX0_goBack_14) (xn_int _) ⟨_, rfl, e⟩
  refine Or.inr ⟨ec, ?_⟩
  rcases e with ⟨ec, e⟩ | ⟨ec, e⟩
  · refine Or.inl ⟨ec, ?_⟩
    refine xw_ast (ls' := [some (va_rf p0), some (.int p1), some (va_rf p2), some (.ref q9)]) (show xm_Imp g Γ 15 (xi_ast 3 16) from xs_astore_n hΓ dX0_goBack_15 (Nat.le_of_ble_eq_true rfl)) ((xm_s1_o (o := p2) rfl).trans rfl) ?_
    refine xw_psh (v := (.int (2))) (show xm_Imp g Γ 16 (xi_psh (.int (2)) 17) from xs_iconst hΓ dX0_goBack_16 (by decide)) ?_
    exact xw_iret (show xm_Imp g Γ 17 (xi_iret .int _) from xs_ireturn hΓ rfl dX0_goBack_17) (xn_int _) ⟨_, rfl, e⟩
  refine Or.inr ⟨ec, ?_⟩
  exact e.elim
noncomputable def F_X0_undo (g : xm_G) (p0 : Option Nat) (p1 : Option Nat) (h : xm_H) (bc : Nat) (bs : Nat) (Q : Int32 → xm_H → Prop) : Prop :=
 xt_b p0 (fun a1 =>
 xt_b (xh_is 0 h a1) (fun _ =>
 xt_c bc bs (fun m2 m3 => F_X1_undo g a1 h m2 m3 (fun v5 h4 =>
 xt_b p1 (fun a6 =>
 xt_b (xh_sl h4 a6 0 v5.toInt64) (fun h7 =>
 Q 0 h7))) (fun E8 q9 h10 => xt_h E8 [("java/lang/IllegalStateException", Q 1 h10)]))))
set_option maxHeartbeats 4000000 in
theorem K_X0_undo {g : xm_G} (hG : xm_Gw g) (p0 : Option Nat) (p1 : Option Nat) (h : xm_H) (bc : Nat) (bs : Nat) {Q : Int32 → xm_H → Prop} (e : F_X0_undo g p0 p1 h bc bs Q) : xm_Run g M_X0_undo 10 [va_rf p0, va_rf p1] h bc bs (fun v h' => ∃ r, v = some (.int r) ∧ Q r h') xm_no := by
  refine xm_Run.of2 (ls := [some (va_rf p0), some (va_rf p1), none]) pn_StringTableauLaw (by cases p0 <;> cases p1 <;> exact Nat.le_of_ble_eq_true rfl) (by cases p0 <;> cases p1 <;> rfl) (fun Γ hΓ => ?_)
  show xm_W g Γ 0 [some (va_rf p0), some (va_rf p1), none] [] h bc bs
  unfold F_X0_undo at e
  refine xw_aldo (x := p1) (show xm_Imp g Γ 0 (xi_ald 1 1) from xs_aload_n hΓ dX0_undo_0) rfl ?_
  refine xw_psh (v := (.int (0))) (show xm_Imp g Γ 1 (xi_psh (.int (0)) 2) from xs_iconst hΓ dX0_undo_1 (by decide)) ?_
  refine xw_aldo (x := p0) (show xm_Imp g Γ 2 (xi_ald 0 3) from xs_aload_n hΓ dX0_undo_2) rfl ?_
  obtain ⟨a1, ha1, e⟩ := e
  obtain ⟨_, e0, e⟩ := e
  obtain ⟨m2, m3, ⟨em1, em2⟩, e⟩ := e
  refine xw_tHvi0 (o := p0) (show xm_Imp g Γ 3 (xi_virH g 0 M_X1_undo 9 0 6 [("java/lang/IllegalStateException", 11)]) from xs_invVH hG hΓ k_X1_undo rfl (hs0 := [("java/lang/IllegalStateException", 11)]) (xm_cov1 (by decide) (by decide) q1880 (xm_covN _ _ _)) (ci := 0) rfl q1952 q1953 q1954 dX0_undo_3) (by simp [xm_stk, xv_cat, xc_int, xc_long, xc_float, xc_double, xc_ref]) ha1 e0 em1 em2 (K_X1_undo hG a1 _ _ _ e) (fun v5 h4 e => ?_) (fun E8 q9 h10 e => ?_)
  · refine xw_i2l (show xm_Imp g Γ 6 (xi_i2l 7) from xs_i2l hΓ dX0_undo_6) ?_
    obtain ⟨a6, ha6, e⟩ := e
    obtain ⟨h7, e1, e⟩ := e
    refine xw_hlas (o := p1) (show xm_Imp g Γ 7 (xi_las 8) from xs_las hG hΓ dX0_undo_7) ha6 e1 ?_
    refine xw_goto (show xm_Imp g Γ 8 (xi_goto 14) from xs_goto hΓ dX0_undo_8 (by decide)) ?_
    refine xw_psh (v := (.int (0))) (show xm_Imp g Γ 14 (xi_psh (.int (0)) 15) from xs_iconst hΓ dX0_undo_14 (by decide)) ?_
    exact xw_iret (show xm_Imp g Γ 15 (xi_iret .int _) from xs_ireturn hΓ rfl dX0_undo_15) (xn_int _) ⟨_, rfl, e⟩
  rcases e with ⟨ec, e⟩ | ⟨ec, e⟩
  · refine Or.inl ⟨ec, ?_⟩
    refine xw_ast (ls' := [some (va_rf p0), some (va_rf p1), some (.ref q9)]) (show xm_Imp g Γ 11 (xi_ast 2 12) from xs_astore_n hΓ dX0_undo_11 (Nat.le_of_ble_eq_true rfl)) ((xm_s1_o (o := p1) rfl).trans rfl) ?_
    refine xw_psh (v := (.int (1))) (show xm_Imp g Γ 12 (xi_psh (.int (1)) 13) from xs_iconst hΓ dX0_undo_12 (by decide)) ?_
    exact xw_iret (show xm_Imp g Γ 13 (xi_iret .int _) from xs_ireturn hΓ rfl dX0_undo_13) (xn_int _) ⟨_, rfl, e⟩
  refine Or.inr ⟨ec, ?_⟩
  exact e.elim
noncomputable def F_X0_letter (g : xm_G) (p0 : Option Nat) (p1 : Int32) (p2 : Int32) (p3 : Option Nat) (h : xm_H) (bc : Nat) (bs : Nat) (Q : Int32 → xm_H → Prop) : Prop :=
 xt_b p0 (fun a1 =>
 xt_b (xh_is 0 h a1) (fun _ =>
 xt_c bc bs (fun m2 m3 => F_X1_letter g a1 p1 p2 h m2 m3 (fun v5 h4 =>
 xt_b p3 (fun a6 =>
 xt_b (xh_sl h4 a6 0 v5.toInt64) (fun h7 =>
 Q 0 h7))) (fun E8 q9 h10 => xt_h E8 [("java/lang/IndexOutOfBoundsException", Q 1 h10)]))))
set_option maxHeartbeats 4000000 in
theorem K_X0_letter {g : xm_G} (hG : xm_Gw g) (p0 : Option Nat) (p1 : Int32) (p2 : Int32) (p3 : Option Nat) (h : xm_H) (bc : Nat) (bs : Nat) {Q : Int32 → xm_H → Prop} (e : F_X0_letter g p0 p1 p2 p3 h bc bs Q) : xm_Run g M_X0_letter 11 [va_rf p0, .int p1, .int p2, va_rf p3] h bc bs (fun v h' => ∃ r, v = some (.int r) ∧ Q r h') xm_no := by
  refine xm_Run.of2 (ls := [some (va_rf p0), some (.int p1), some (.int p2), some (va_rf p3), none]) pn_StringTableauLaw (by cases p0 <;> cases p3 <;> exact Nat.le_of_ble_eq_true rfl) (by cases p0 <;> cases p3 <;> rfl) (fun Γ hΓ => ?_)
  show xm_W g Γ 0 [some (va_rf p0), some (.int p1), some (.int p2), some (va_rf p3), none] [] h bc bs
  unfold F_X0_letter at e
  refine xw_aldo (x := p3) (show xm_Imp g Γ 0 (xi_ald 3 1) from xs_aload_n hΓ dX0_letter_0) rfl ?_
  refine xw_psh (v := (.int (0))) (show xm_Imp g Γ 1 (xi_psh (.int (0)) 2) from xs_iconst hΓ dX0_letter_1 (by decide)) ?_
  refine xw_aldo (x := p0) (show xm_Imp g Γ 2 (xi_ald 0 3) from xs_aload_n hΓ dX0_letter_2) rfl ?_
  refine xw_ild (show xm_Imp g Γ 3 (xi_ild 1 4) from xs_iload_n hΓ dX0_letter_3) rfl ?_
  refine xw_ild (show xm_Imp g Γ 4 (xi_ild 2 5) from xs_iload_n hΓ dX0_letter_4) rfl ?_
  obtain ⟨a1, ha1, e⟩ := e
  obtain ⟨_, e0, e⟩ := e
  obtain ⟨m2, m3, ⟨em1, em2⟩, e⟩ := e
  refine xw_tHvi2 (o := p0) (show xm_Imp g Γ 5 (xi_virH g 0 M_X1_letter 10 2 8 [("java/lang/IndexOutOfBoundsException", 13)]) from xs_invVH hG hΓ k_X1_letter rfl (hs0 := [("java/lang/IndexOutOfBoundsException", 13)]) (xm_cov1 (by decide) (by decide) q1830 (xm_covN _ _ _)) (ci := 0) rfl q1963 q1964 q1965 dX0_letter_5) (by simp [xm_stk, xv_cat, xc_int, xc_long, xc_float, xc_double, xc_ref]) ha1 e0 em1 em2 (K_X1_letter hG a1 p1 p2 _ _ _ e) (fun v5 h4 e => ?_) (fun E8 q9 h10 e => ?_)
  · refine xw_i2l (show xm_Imp g Γ 8 (xi_i2l 9) from xs_i2l hΓ dX0_letter_8) ?_
    obtain ⟨a6, ha6, e⟩ := e
    obtain ⟨h7, e1, e⟩ := e
    refine xw_hlas (o := p3) (show xm_Imp g Γ 9 (xi_las 10) from xs_las hG hΓ dX0_letter_9) ha6 e1 ?_
    refine xw_goto (show xm_Imp g Γ 10 (xi_goto 17) from xs_goto hΓ dX0_letter_10 (by decide)) ?_
    refine xw_psh (v := (.int (0))) (show xm_Imp g Γ 17 (xi_psh (.int (0)) 18) from xs_iconst hΓ dX0_letter_17 (by decide)) ?_
    exact xw_iret (show xm_Imp g Γ 18 (xi_iret .int _) from xs_ireturn hΓ rfl dX0_letter_18) (xn_int _) ⟨_, rfl, e⟩
  rcases e with ⟨ec, e⟩ | ⟨ec, e⟩
  · refine Or.inl ⟨ec, ?_⟩
    refine xw_ast (ls' := [some (va_rf p0), some (.int p1), some (.int p2), some (va_rf p3), some (.ref q9)]) (show xm_Imp g Γ 13 (xi_ast 4 15) from xs_astore hΓ dX0_letter_13 (Nat.le_of_ble_eq_true rfl)) ((xm_s1_o (o := p3) rfl).trans rfl) ?_
    refine xw_psh (v := (.int (1))) (show xm_Imp g Γ 15 (xi_psh (.int (1)) 16) from xs_iconst hΓ dX0_letter_15 (by decide)) ?_
    exact xw_iret (show xm_Imp g Γ 16 (xi_iret .int _) from xs_ireturn hΓ rfl dX0_letter_16) (xn_int _) ⟨_, rfl, e⟩
  refine Or.inr ⟨ec, ?_⟩
  exact e.elim
noncomputable def F_X0_row (g : xm_G) (p0 : Option Nat) (p1 : Int32) (p2 : Int32) (p3 : Option Nat) (h : xm_H) (bc : Nat) (bs : Nat) (Q : Int32 → xm_H → Prop) : Prop :=
 xt_b p0 (fun a1 =>
 xt_b (xh_is 0 h a1) (fun _ =>
 xt_c bc bs (fun m2 m3 => F_X1_row g a1 p1 p2 h m2 m3 (fun v5 h4 =>
 xt_b p3 (fun a6 =>
 xt_b (xh_sl h4 a6 0 v5.toInt64) (fun h7 =>
 Q 0 h7))) (fun E8 q9 h10 => xt_h E8 [("java/lang/IndexOutOfBoundsException", Q 1 h10)]))))
set_option maxHeartbeats 4000000 in
theorem K_X0_row {g : xm_G} (hG : xm_Gw g) (p0 : Option Nat) (p1 : Int32) (p2 : Int32) (p3 : Option Nat) (h : xm_H) (bc : Nat) (bs : Nat) {Q : Int32 → xm_H → Prop} (e : F_X0_row g p0 p1 p2 p3 h bc bs Q) : xm_Run g M_X0_row 12 [va_rf p0, .int p1, .int p2, va_rf p3] h bc bs (fun v h' => ∃ r, v = some (.int r) ∧ Q r h') xm_no := by
  refine xm_Run.of2 (ls := [some (va_rf p0), some (.int p1), some (.int p2), some (va_rf p3), none]) pn_StringTableauLaw (by cases p0 <;> cases p3 <;> exact Nat.le_of_ble_eq_true rfl) (by cases p0 <;> cases p3 <;> rfl) (fun Γ hΓ => ?_)
  show xm_W g Γ 0 [some (va_rf p0), some (.int p1), some (.int p2), some (va_rf p3), none] [] h bc bs
  unfold F_X0_row at e
  refine xw_aldo (x := p3) (show xm_Imp g Γ 0 (xi_ald 3 1) from xs_aload_n hΓ dX0_row_0) rfl ?_
  refine xw_psh (v := (.int (0))) (show xm_Imp g Γ 1 (xi_psh (.int (0)) 2) from xs_iconst hΓ dX0_row_1 (by decide)) ?_
  refine xw_aldo (x := p0) (show xm_Imp g Γ 2 (xi_ald 0 3) from xs_aload_n hΓ dX0_row_2) rfl ?_
  refine xw_ild (show xm_Imp g Γ 3 (xi_ild 1 4) from xs_iload_n hΓ dX0_row_3) rfl ?_
  refine xw_ild (show xm_Imp g Γ 4 (xi_ild 2 5) from xs_iload_n hΓ dX0_row_4) rfl ?_
  obtain ⟨a1, ha1, e⟩ := e
  obtain ⟨_, e0, e⟩ := e
  obtain ⟨m2, m3, ⟨em1, em2⟩, e⟩ := e
  refine xw_tHvi2 (o := p0) (show xm_Imp g Γ 5 (xi_virH g 0 M_X1_row 11 2 8 [("java/lang/IndexOutOfBoundsException", 13)]) from xs_invVH hG hΓ k_X1_row rfl (hs0 := [("java/lang/IndexOutOfBoundsException", 13)]) (xm_cov1 (by decide) (by decide) q1830 (xm_covN _ _ _)) (ci := 0) rfl q1970 q1971 q1972 dX0_row_5) (by simp [xm_stk, xv_cat, xc_int, xc_long, xc_float, xc_double, xc_ref]) ha1 e0 em1 em2 (K_X1_row hG a1 p1 p2 _ _ _ e) (fun v5 h4 e => ?_) (fun E8 q9 h10 e => ?_)
  · refine xw_i2l (show xm_Imp g Γ 8 (xi_i2l 9) from xs_i2l hΓ dX0_row_8) ?_
    obtain ⟨a6, ha6, e⟩ := e
    obtain ⟨h7, e1, e⟩ := e
    refine xw_hlas (o := p3) (show xm_Imp g Γ 9 (xi_las 10) from xs_las hG hΓ dX0_row_9) ha6 e1 ?_
    refine xw_goto (show xm_Imp g Γ 10 (xi_goto 17) from xs_goto hΓ dX0_row_10 (by decide)) ?_
    refine xw_psh (v := (.int (0))) (show xm_Imp g Γ 17 (xi_psh (.int (0)) 18) from xs_iconst hΓ dX0_row_17 (by decide)) ?_
    exact xw_iret (show xm_Imp g Γ 18 (xi_iret .int _) from xs_ireturn hΓ rfl dX0_row_18) (xn_int _) ⟨_, rfl, e⟩
  rcases e with ⟨ec, e⟩ | ⟨ec, e⟩
  · refine Or.inl ⟨ec, ?_⟩
    refine xw_ast (ls' := [some (va_rf p0), some (.int p1), some (.int p2), some (va_rf p3), some (.ref q9)]) (show xm_Imp g Γ 13 (xi_ast 4 15) from xs_astore hΓ dX0_row_13 (Nat.le_of_ble_eq_true rfl)) ((xm_s1_o (o := p3) rfl).trans rfl) ?_
    refine xw_psh (v := (.int (1))) (show xm_Imp g Γ 15 (xi_psh (.int (1)) 16) from xs_iconst hΓ dX0_row_15 (by decide)) ?_
    exact xw_iret (show xm_Imp g Γ 16 (xi_iret .int _) from xs_ireturn hΓ rfl dX0_row_16) (xn_int _) ⟨_, rfl, e⟩
  refine Or.inr ⟨ec, ?_⟩
  exact e.elim
noncomputable def F_X0_canonical (g : xm_G) (p0 : Option Nat) (p1 : Int32) (p2 : Int32) (p3 : Option Nat) (h : xm_H) (bc : Nat) (bs : Nat) (Q : Int32 → xm_H → Prop) : Prop :=
 xt_b p0 (fun a1 =>
 xt_b (xh_is 0 h a1) (fun _ =>
 xt_c bc bs (fun m2 m3 => F_X1_canonical g a1 p1 p2 h m2 m3 (fun v5 h4 =>
 xt_b p3 (fun a6 =>
 xt_b (xh_sl h4 a6 0 v5.toInt64) (fun h7 =>
 Q 0 h7))) (fun E8 q9 h10 => xt_h E8 [("java/lang/IndexOutOfBoundsException", Q 1 h10)]))))
set_option maxHeartbeats 4000000 in
theorem K_X0_canonical {g : xm_G} (hG : xm_Gw g) (p0 : Option Nat) (p1 : Int32) (p2 : Int32) (p3 : Option Nat) (h : xm_H) (bc : Nat) (bs : Nat) {Q : Int32 → xm_H → Prop} (e : F_X0_canonical g p0 p1 p2 p3 h bc bs Q) : xm_Run g M_X0_canonical 12 [va_rf p0, .int p1, .int p2, va_rf p3] h bc bs (fun v h' => ∃ r, v = some (.int r) ∧ Q r h') xm_no := by
  refine xm_Run.of2 (ls := [some (va_rf p0), some (.int p1), some (.int p2), some (va_rf p3), none]) pn_StringTableauLaw (by cases p0 <;> cases p3 <;> exact Nat.le_of_ble_eq_true rfl) (by cases p0 <;> cases p3 <;> rfl) (fun Γ hΓ => ?_)
  show xm_W g Γ 0 [some (va_rf p0), some (.int p1), some (.int p2), some (va_rf p3), none] [] h bc bs
  unfold F_X0_canonical at e
  refine xw_aldo (x := p3) (show xm_Imp g Γ 0 (xi_ald 3 1) from xs_aload_n hΓ dX0_canonical_0) rfl ?_
  refine xw_psh (v := (.int (0))) (show xm_Imp g Γ 1 (xi_psh (.int (0)) 2) from xs_iconst hΓ dX0_canonical_1 (by decide)) ?_
  refine xw_aldo (x := p0) (show xm_Imp g Γ 2 (xi_ald 0 3) from xs_aload_n hΓ dX0_canonical_2) rfl ?_
  refine xw_ild (show xm_Imp g Γ 3 (xi_ild 1 4) from xs_iload_n hΓ dX0_canonical_3) rfl ?_
  refine xw_ild (show xm_Imp g Γ 4 (xi_ild 2 5) from xs_iload_n hΓ dX0_canonical_4) rfl ?_
  obtain ⟨a1, ha1, e⟩ := e
  obtain ⟨_, e0, e⟩ := e
  obtain ⟨m2, m3, ⟨em1, em2⟩, e⟩ := e
  refine xw_tHvi2 (o := p0) (show xm_Imp g Γ 5 (xi_virH g 0 M_X1_canonical 11 2 8 [("java/lang/IndexOutOfBoundsException", 13)]) from xs_invVH hG hΓ k_X1_canonical rfl (hs0 := [("java/lang/IndexOutOfBoundsException", 13)]) (xm_cov1 (by decide) (by decide) q1830 (xm_covN _ _ _)) (ci := 0) rfl q1989 q1990 q1991 dX0_canonical_5) (by simp [xm_stk, xv_cat, xc_int, xc_long, xc_float, xc_double, xc_ref]) ha1 e0 em1 em2 (K_X1_canonical hG a1 p1 p2 _ _ _ e) (fun v5 h4 e => ?_) (fun E8 q9 h10 e => ?_)
  · refine xw_i2l (show xm_Imp g Γ 8 (xi_i2l 9) from xs_i2l hΓ dX0_canonical_8) ?_
    obtain ⟨a6, ha6, e⟩ := e
    obtain ⟨h7, e1, e⟩ := e
    refine xw_hlas (o := p3) (show xm_Imp g Γ 9 (xi_las 10) from xs_las hG hΓ dX0_canonical_9) ha6 e1 ?_
    refine xw_goto (show xm_Imp g Γ 10 (xi_goto 17) from xs_goto hΓ dX0_canonical_10 (by decide)) ?_
    refine xw_psh (v := (.int (0))) (show xm_Imp g Γ 17 (xi_psh (.int (0)) 18) from xs_iconst hΓ dX0_canonical_17 (by decide)) ?_
    exact xw_iret (show xm_Imp g Γ 18 (xi_iret .int _) from xs_ireturn hΓ rfl dX0_canonical_18) (xn_int _) ⟨_, rfl, e⟩
  rcases e with ⟨ec, e⟩ | ⟨ec, e⟩
  · refine Or.inl ⟨ec, ?_⟩
    refine xw_ast (ls' := [some (va_rf p0), some (.int p1), some (.int p2), some (va_rf p3), some (.ref q9)]) (show xm_Imp g Γ 13 (xi_ast 4 15) from xs_astore hΓ dX0_canonical_13 (Nat.le_of_ble_eq_true rfl)) ((xm_s1_o (o := p3) rfl).trans rfl) ?_
    refine xw_psh (v := (.int (1))) (show xm_Imp g Γ 15 (xi_psh (.int (1)) 16) from xs_iconst hΓ dX0_canonical_15 (by decide)) ?_
    exact xw_iret (show xm_Imp g Γ 16 (xi_iret .int _) from xs_ireturn hΓ rfl dX0_canonical_16) (xn_int _) ⟨_, rfl, e⟩
  refine Or.inr ⟨ec, ?_⟩
  exact e.elim
noncomputable def F_X0_measured (g : xm_G) (p0 : Option Nat) (p1 : Int32) (p2 : Int32) (p3 : Option Nat) (h : xm_H) (bc : Nat) (bs : Nat) (Q : Int32 → xm_H → Prop) : Prop :=
 xt_b p0 (fun a1 =>
 xt_b (xh_is 0 h a1) (fun _ =>
 xt_c bc bs (fun m2 m3 => F_X1_measured g a1 p1 p2 h m2 m3 (fun v5 h4 =>
 xt_b p3 (fun a6 =>
 xt_b (xh_sl h4 a6 0 v5.toInt64) (fun h7 =>
 Q 0 h7))) (fun E8 q9 h10 => xt_h E8 [("java/lang/IndexOutOfBoundsException", Q 1 h10)]))))
set_option maxHeartbeats 4000000 in
theorem K_X0_measured {g : xm_G} (hG : xm_Gw g) (p0 : Option Nat) (p1 : Int32) (p2 : Int32) (p3 : Option Nat) (h : xm_H) (bc : Nat) (bs : Nat) {Q : Int32 → xm_H → Prop} (e : F_X0_measured g p0 p1 p2 p3 h bc bs Q) : xm_Run g M_X0_measured 12 [va_rf p0, .int p1, .int p2, va_rf p3] h bc bs (fun v h' => ∃ r, v = some (.int r) ∧ Q r h') xm_no := by
  refine xm_Run.of2 (ls := [some (va_rf p0), some (.int p1), some (.int p2), some (va_rf p3), none]) pn_StringTableauLaw (by cases p0 <;> cases p3 <;> exact Nat.le_of_ble_eq_true rfl) (by cases p0 <;> cases p3 <;> rfl) (fun Γ hΓ => ?_)
  show xm_W g Γ 0 [some (va_rf p0), some (.int p1), some (.int p2), some (va_rf p3), none] [] h bc bs
  unfold F_X0_measured at e
  refine xw_aldo (x := p3) (show xm_Imp g Γ 0 (xi_ald 3 1) from xs_aload_n hΓ dX0_measured_0) rfl ?_
  refine xw_psh (v := (.int (0))) (show xm_Imp g Γ 1 (xi_psh (.int (0)) 2) from xs_iconst hΓ dX0_measured_1 (by decide)) ?_
  refine xw_aldo (x := p0) (show xm_Imp g Γ 2 (xi_ald 0 3) from xs_aload_n hΓ dX0_measured_2) rfl ?_
  refine xw_ild (show xm_Imp g Γ 3 (xi_ild 1 4) from xs_iload_n hΓ dX0_measured_3) rfl ?_
  refine xw_ild (show xm_Imp g Γ 4 (xi_ild 2 5) from xs_iload_n hΓ dX0_measured_4) rfl ?_
  obtain ⟨a1, ha1, e⟩ := e
  obtain ⟨_, e0, e⟩ := e
  obtain ⟨m2, m3, ⟨em1, em2⟩, e⟩ := e
  refine xw_tHvi2 (o := p0) (show xm_Imp g Γ 5 (xi_virH g 0 M_X1_measured 11 2 8 [("java/lang/IndexOutOfBoundsException", 13)]) from xs_invVH hG hΓ k_X1_measured rfl (hs0 := [("java/lang/IndexOutOfBoundsException", 13)]) (xm_cov1 (by decide) (by decide) q1830 (xm_covN _ _ _)) (ci := 0) rfl q1996 q1997 q1998 dX0_measured_5) (by simp [xm_stk, xv_cat, xc_int, xc_long, xc_float, xc_double, xc_ref]) ha1 e0 em1 em2 (K_X1_measured hG a1 p1 p2 _ _ _ e) (fun v5 h4 e => ?_) (fun E8 q9 h10 e => ?_)
  · refine xw_i2l (show xm_Imp g Γ 8 (xi_i2l 9) from xs_i2l hΓ dX0_measured_8) ?_
    obtain ⟨a6, ha6, e⟩ := e
    obtain ⟨h7, e1, e⟩ := e
    refine xw_hlas (o := p3) (show xm_Imp g Γ 9 (xi_las 10) from xs_las hG hΓ dX0_measured_9) ha6 e1 ?_
    refine xw_goto (show xm_Imp g Γ 10 (xi_goto 17) from xs_goto hΓ dX0_measured_10 (by decide)) ?_
    refine xw_psh (v := (.int (0))) (show xm_Imp g Γ 17 (xi_psh (.int (0)) 18) from xs_iconst hΓ dX0_measured_17 (by decide)) ?_
    exact xw_iret (show xm_Imp g Γ 18 (xi_iret .int _) from xs_ireturn hΓ rfl dX0_measured_18) (xn_int _) ⟨_, rfl, e⟩
  rcases e with ⟨ec, e⟩ | ⟨ec, e⟩
  · refine Or.inl ⟨ec, ?_⟩
    refine xw_ast (ls' := [some (va_rf p0), some (.int p1), some (.int p2), some (va_rf p3), some (.ref q9)]) (show xm_Imp g Γ 13 (xi_ast 4 15) from xs_astore hΓ dX0_measured_13 (Nat.le_of_ble_eq_true rfl)) ((xm_s1_o (o := p3) rfl).trans rfl) ?_
    refine xw_psh (v := (.int (1))) (show xm_Imp g Γ 15 (xi_psh (.int (1)) 16) from xs_iconst hΓ dX0_measured_15 (by decide)) ?_
    exact xw_iret (show xm_Imp g Γ 16 (xi_iret .int _) from xs_ireturn hΓ rfl dX0_measured_16) (xn_int _) ⟨_, rfl, e⟩
  refine Or.inr ⟨ec, ?_⟩
  exact e.elim
noncomputable def B_X0_commute_20 (g : xm_G) (s0 : Option Nat) (s1 : Int32) (s2 : Int64) (h : xm_H) (bc : Nat) (bs : Nat) (Q : Int32 → xm_H → Prop) : Prop :=
 xt_b s0 (fun a6 =>
 xt_b (xh_sl h a6 s1 s2) (fun h7 =>
 Q 0 h7))
noncomputable def F_X0_commute (g : xm_G) (p0 : Option Nat) (p1 : Int32) (p2 : Int32) (p3 : Int32) (p4 : Int32) (p5 : Option Nat) (h : xm_H) (bc : Nat) (bs : Nat) (Q : Int32 → xm_H → Prop) : Prop :=
 xt_b p0 (fun a1 =>
 xt_b (xh_is 0 h a1) (fun _ =>
 xt_c bc bs (fun m2 m3 => F_X1_commute g a1 p1 p2 p3 p4 h m2 m3 (fun v5 h4 =>
 B_X0_commute_20 g p5 0 (if v5 = 0 then 0 else 1) h4 (bc - m2) (bs - m3) Q) (fun E8 q9 h10 => xt_h E8 [("java/lang/IllegalArgumentException", Q 1 h10)]))))
set_option maxHeartbeats 4000000 in
theorem K_X0_commute {g : xm_G} (hG : xm_Gw g) (p0 : Option Nat) (p1 : Int32) (p2 : Int32) (p3 : Int32) (p4 : Int32) (p5 : Option Nat) (h : xm_H) (bc : Nat) (bs : Nat) {Q : Int32 → xm_H → Prop} (e : F_X0_commute g p0 p1 p2 p3 p4 p5 h bc bs Q) : xm_Run g M_X0_commute 11 [va_rf p0, .int p1, .int p2, .int p3, .int p4, va_rf p5] h bc bs (fun v h' => ∃ r, v = some (.int r) ∧ Q r h') xm_no := by
  refine xm_Run.of2 (ls := [some (va_rf p0), some (.int p1), some (.int p2), some (.int p3), some (.int p4), some (va_rf p5), none]) pn_StringTableauLaw (by cases p0 <;> cases p5 <;> exact Nat.le_of_ble_eq_true rfl) (by cases p0 <;> cases p5 <;> rfl) (fun Γ hΓ => ?_)
  show xm_W g Γ 0 [some (va_rf p0), some (.int p1), some (.int p2), some (.int p3), some (.int p4), some (va_rf p5), none] [] h bc bs
  have hB_20 : ∀ (s0 : Option Nat) (s1 : Int32) (s2 : Int64) (h : xm_H) (bc : Nat) (bs : Nat), B_X0_commute_20 g s0 s1 s2 h bc bs Q → xm_W g Γ 20 [none, none, none, none, none, none, none] [.long s2, .int s1, va_rf s0] h bc bs := by
    intro s0 s1 s2 h bc bs e
    unfold B_X0_commute_20 at e
    obtain ⟨a6, ha6, e⟩ := e
    obtain ⟨h7, e1, e⟩ := e
    refine xw_hlas (o := s0) (show xm_Imp g Γ 20 (xi_las 21) from xs_las hG hΓ dX0_commute_20) ha6 e1 ?_
    refine xw_goto (show xm_Imp g Γ 21 (xi_goto 28) from xs_goto hΓ dX0_commute_21 (by decide)) ?_
    refine xw_psh (v := (.int (0))) (show xm_Imp g Γ 28 (xi_psh (.int (0)) 29) from xs_iconst hΓ dX0_commute_28 (by decide)) ?_
    exact xw_iret (show xm_Imp g Γ 29 (xi_iret .int _) from xs_ireturn hΓ rfl dX0_commute_29) (xn_int _) ⟨_, rfl, e⟩
  unfold F_X0_commute at e
  refine xw_aldo (x := p5) (show xm_Imp g Γ 0 (xi_ald 5 2) from xs_aload hΓ dX0_commute_0) rfl ?_
  refine xw_psh (v := (.int (0))) (show xm_Imp g Γ 2 (xi_psh (.int (0)) 3) from xs_iconst hΓ dX0_commute_2 (by decide)) ?_
  refine xw_aldo (x := p0) (show xm_Imp g Γ 3 (xi_ald 0 4) from xs_aload_n hΓ dX0_commute_3) rfl ?_
  refine xw_ild (show xm_Imp g Γ 4 (xi_ild 1 5) from xs_iload_n hΓ dX0_commute_4) rfl ?_
  refine xw_ild (show xm_Imp g Γ 5 (xi_ild 2 6) from xs_iload_n hΓ dX0_commute_5) rfl ?_
  refine xw_ild (show xm_Imp g Γ 6 (xi_ild 3 7) from xs_iload_n hΓ dX0_commute_6) rfl ?_
  refine xw_ild (show xm_Imp g Γ 7 (xi_ild 4 9) from xs_iload hΓ dX0_commute_7) rfl ?_
  obtain ⟨a1, ha1, e⟩ := e
  obtain ⟨_, e0, e⟩ := e
  obtain ⟨m2, m3, ⟨em1, em2⟩, e⟩ := e
  refine xw_tHvi4 (o := p0) (show xm_Imp g Γ 9 (xi_virH g 0 M_X1_commute 10 4 12 [("java/lang/IllegalArgumentException", 24)]) from xs_invVH hG hΓ k_X1_commute rfl (hs0 := [("java/lang/IllegalArgumentException", 24)]) (xm_cov1 (by decide) (by decide) q1858 (xm_covN _ _ _)) (ci := 0) rfl q2003 q2004 q2005 dX0_commute_9) (by simp [xm_stk, xv_cat, xc_int, xc_long, xc_float, xc_double, xc_ref]) ha1 e0 em1 em2 (K_X1_commute hG a1 p1 p2 p3 p4 _ _ _ e) (fun v5 h4 e => ?_) (fun E8 q9 h10 e => ?_)
  · refine xw_if (show xm_Imp g Γ 12 (xi_if (fun x => x = 0) 19 15) from xs_if_eq hΓ dX0_commute_12 (by decide)) (fun c => ?_) (fun c => ?_)
    · rw [if_pos c] at e
      refine xw_psh (v := (.long 0)) (show xm_Imp g Γ 19 (xi_psh (.long 0) 20) from xs_lconst hΓ dX0_commute_19 (by decide)) ?_
      exact xm_lx (hB_20 _ _ _ _ _ _ e) (trivial)
    · rw [if_neg c] at e
      refine xw_psh (v := (.long 1)) (show xm_Imp g Γ 15 (xi_psh (.long 1) 16) from xs_lconst hΓ dX0_commute_15 (by decide)) ?_
      refine xw_goto (show xm_Imp g Γ 16 (xi_goto 20) from xs_goto hΓ dX0_commute_16 (by decide)) ?_
      exact xm_lx (hB_20 _ _ _ _ _ _ e) (trivial)
  rcases e with ⟨ec, e⟩ | ⟨ec, e⟩
  · refine Or.inl ⟨ec, ?_⟩
    refine xw_ast (ls' := [some (va_rf p0), some (.int p1), some (.int p2), some (.int p3), some (.int p4), some (va_rf p5), some (.ref q9)]) (show xm_Imp g Γ 24 (xi_ast 6 26) from xs_astore hΓ dX0_commute_24 (Nat.le_of_ble_eq_true rfl)) ((xm_s1_o (o := p5) rfl).trans rfl) ?_
    refine xw_psh (v := (.int (1))) (show xm_Imp g Γ 26 (xi_psh (.int (1)) 27) from xs_iconst hΓ dX0_commute_26 (by decide)) ?_
    exact xw_iret (show xm_Imp g Γ 27 (xi_iret .int _) from xs_ireturn hΓ rfl dX0_commute_27) (xn_int _) ⟨_, rfl, e⟩
  refine Or.inr ⟨ec, ?_⟩
  exact e.elim
noncomputable def F_X0_phase (g : xm_G) (p0 : Option Nat) (p1 : Int32) (p2 : Int32) (p3 : Int32) (p4 : Int32) (p5 : Option Nat) (h : xm_H) (bc : Nat) (bs : Nat) (Q : Int32 → xm_H → Prop) : Prop :=
 xt_b p0 (fun a1 =>
 xt_b (xh_is 0 h a1) (fun _ =>
 xt_c bc bs (fun m2 m3 => F_X1_phase g a1 p1 p2 p3 p4 h m2 m3 (fun v5 h4 =>
 xt_b p5 (fun a6 =>
 xt_b (xh_sl h4 a6 0 v5.toInt64) (fun h7 =>
 Q 0 h7))) (fun E8 q9 h10 => xt_h E8 [("java/lang/IllegalArgumentException", Q 1 h10)]))))
set_option maxHeartbeats 4000000 in
theorem K_X0_phase {g : xm_G} (hG : xm_Gw g) (p0 : Option Nat) (p1 : Int32) (p2 : Int32) (p3 : Int32) (p4 : Int32) (p5 : Option Nat) (h : xm_H) (bc : Nat) (bs : Nat) {Q : Int32 → xm_H → Prop} (e : F_X0_phase g p0 p1 p2 p3 p4 p5 h bc bs Q) : xm_Run g M_X0_phase 11 [va_rf p0, .int p1, .int p2, .int p3, .int p4, va_rf p5] h bc bs (fun v h' => ∃ r, v = some (.int r) ∧ Q r h') xm_no := by
  refine xm_Run.of2 (ls := [some (va_rf p0), some (.int p1), some (.int p2), some (.int p3), some (.int p4), some (va_rf p5), none]) pn_StringTableauLaw (by cases p0 <;> cases p5 <;> exact Nat.le_of_ble_eq_true rfl) (by cases p0 <;> cases p5 <;> rfl) (fun Γ hΓ => ?_)
  show xm_W g Γ 0 [some (va_rf p0), some (.int p1), some (.int p2), some (.int p3), some (.int p4), some (va_rf p5), none] [] h bc bs
  unfold F_X0_phase at e
  refine xw_aldo (x := p5) (show xm_Imp g Γ 0 (xi_ald 5 2) from xs_aload hΓ dX0_phase_0) rfl ?_
  refine xw_psh (v := (.int (0))) (show xm_Imp g Γ 2 (xi_psh (.int (0)) 3) from xs_iconst hΓ dX0_phase_2 (by decide)) ?_
  refine xw_aldo (x := p0) (show xm_Imp g Γ 3 (xi_ald 0 4) from xs_aload_n hΓ dX0_phase_3) rfl ?_
  refine xw_ild (show xm_Imp g Γ 4 (xi_ild 1 5) from xs_iload_n hΓ dX0_phase_4) rfl ?_
  refine xw_ild (show xm_Imp g Γ 5 (xi_ild 2 6) from xs_iload_n hΓ dX0_phase_5) rfl ?_
  refine xw_ild (show xm_Imp g Γ 6 (xi_ild 3 7) from xs_iload_n hΓ dX0_phase_6) rfl ?_
  refine xw_ild (show xm_Imp g Γ 7 (xi_ild 4 9) from xs_iload hΓ dX0_phase_7) rfl ?_
  obtain ⟨a1, ha1, e⟩ := e
  obtain ⟨_, e0, e⟩ := e
  obtain ⟨m2, m3, ⟨em1, em2⟩, e⟩ := e
  refine xw_tHvi4 (o := p0) (show xm_Imp g Γ 9 (xi_virH g 0 M_X1_phase 10 4 12 [("java/lang/IllegalArgumentException", 17)]) from xs_invVH hG hΓ k_X1_phase rfl (hs0 := [("java/lang/IllegalArgumentException", 17)]) (xm_cov1 (by decide) (by decide) q1858 (xm_covN _ _ _)) (ci := 0) rfl q2011 q2012 q2013 dX0_phase_9) (by simp [xm_stk, xv_cat, xc_int, xc_long, xc_float, xc_double, xc_ref]) ha1 e0 em1 em2 (K_X1_phase hG a1 p1 p2 p3 p4 _ _ _ e) (fun v5 h4 e => ?_) (fun E8 q9 h10 e => ?_)
  · refine xw_i2l (show xm_Imp g Γ 12 (xi_i2l 13) from xs_i2l hΓ dX0_phase_12) ?_
    obtain ⟨a6, ha6, e⟩ := e
    obtain ⟨h7, e1, e⟩ := e
    refine xw_hlas (o := p5) (show xm_Imp g Γ 13 (xi_las 14) from xs_las hG hΓ dX0_phase_13) ha6 e1 ?_
    refine xw_goto (show xm_Imp g Γ 14 (xi_goto 21) from xs_goto hΓ dX0_phase_14 (by decide)) ?_
    refine xw_psh (v := (.int (0))) (show xm_Imp g Γ 21 (xi_psh (.int (0)) 22) from xs_iconst hΓ dX0_phase_21 (by decide)) ?_
    exact xw_iret (show xm_Imp g Γ 22 (xi_iret .int _) from xs_ireturn hΓ rfl dX0_phase_22) (xn_int _) ⟨_, rfl, e⟩
  rcases e with ⟨ec, e⟩ | ⟨ec, e⟩
  · refine Or.inl ⟨ec, ?_⟩
    refine xw_ast (ls' := [some (va_rf p0), some (.int p1), some (.int p2), some (.int p3), some (.int p4), some (va_rf p5), some (.ref q9)]) (show xm_Imp g Γ 17 (xi_ast 6 19) from xs_astore hΓ dX0_phase_17 (Nat.le_of_ble_eq_true rfl)) ((xm_s1_o (o := p5) rfl).trans rfl) ?_
    refine xw_psh (v := (.int (1))) (show xm_Imp g Γ 19 (xi_psh (.int (1)) 20) from xs_iconst hΓ dX0_phase_19 (by decide)) ?_
    exact xw_iret (show xm_Imp g Γ 20 (xi_iret .int _) from xs_ireturn hΓ rfl dX0_phase_20) (xn_int _) ⟨_, rfl, e⟩
  refine Or.inr ⟨ec, ?_⟩
  exact e.elim
noncomputable def F_X0_against (g : xm_G) (p0 : Option Nat) (p1 : Int32) (p2 : Int32) (p3 : Option Nat) (h : xm_H) (bc : Nat) (bs : Nat) (Q : Int32 → xm_H → Prop) : Prop :=
 xt_b p0 (fun a1 =>
 xt_b (xh_is 0 h a1) (fun _ =>
 xt_c bc bs (fun m2 m3 => F_X1_against g a1 p1 p2 h m2 m3 (fun v5 h4 =>
 xt_b p3 (fun a6 =>
 xt_b (xh_sl h4 a6 0 v5.toInt64) (fun h7 =>
 Q 0 h7))) (fun E8 q9 h10 => xt_h E8 [("java/lang/IllegalArgumentException", Q 1 h10)]))))
set_option maxHeartbeats 4000000 in
theorem K_X0_against {g : xm_G} (hG : xm_Gw g) (p0 : Option Nat) (p1 : Int32) (p2 : Int32) (p3 : Option Nat) (h : xm_H) (bc : Nat) (bs : Nat) {Q : Int32 → xm_H → Prop} (e : F_X0_against g p0 p1 p2 p3 h bc bs Q) : xm_Run g M_X0_against 11 [va_rf p0, .int p1, .int p2, va_rf p3] h bc bs (fun v h' => ∃ r, v = some (.int r) ∧ Q r h') xm_no := by
  refine xm_Run.of2 (ls := [some (va_rf p0), some (.int p1), some (.int p2), some (va_rf p3), none]) pn_StringTableauLaw (by cases p0 <;> cases p3 <;> exact Nat.le_of_ble_eq_true rfl) (by cases p0 <;> cases p3 <;> rfl) (fun Γ hΓ => ?_)
  show xm_W g Γ 0 [some (va_rf p0), some (.int p1), some (.int p2), some (va_rf p3), none] [] h bc bs
  unfold F_X0_against at e
  refine xw_aldo (x := p3) (show xm_Imp g Γ 0 (xi_ald 3 1) from xs_aload_n hΓ dX0_against_0) rfl ?_
  refine xw_psh (v := (.int (0))) (show xm_Imp g Γ 1 (xi_psh (.int (0)) 2) from xs_iconst hΓ dX0_against_1 (by decide)) ?_
  refine xw_aldo (x := p0) (show xm_Imp g Γ 2 (xi_ald 0 3) from xs_aload_n hΓ dX0_against_2) rfl ?_
  refine xw_ild (show xm_Imp g Γ 3 (xi_ild 1 4) from xs_iload_n hΓ dX0_against_3) rfl ?_
  refine xw_ild (show xm_Imp g Γ 4 (xi_ild 2 5) from xs_iload_n hΓ dX0_against_4) rfl ?_
  obtain ⟨a1, ha1, e⟩ := e
  obtain ⟨_, e0, e⟩ := e
  obtain ⟨m2, m3, ⟨em1, em2⟩, e⟩ := e
  refine xw_tHvi2 (o := p0) (show xm_Imp g Γ 5 (xi_virH g 0 M_X1_against 10 2 8 [("java/lang/IllegalArgumentException", 13)]) from xs_invVH hG hΓ k_X1_against rfl (hs0 := [("java/lang/IllegalArgumentException", 13)]) (xm_cov1 (by decide) (by decide) q1858 (xm_covN _ _ _)) (ci := 0) rfl q2019 q2020 q2021 dX0_against_5) (by simp [xm_stk, xv_cat, xc_int, xc_long, xc_float, xc_double, xc_ref]) ha1 e0 em1 em2 (K_X1_against hG a1 p1 p2 _ _ _ e) (fun v5 h4 e => ?_) (fun E8 q9 h10 e => ?_)
  · refine xw_i2l (show xm_Imp g Γ 8 (xi_i2l 9) from xs_i2l hΓ dX0_against_8) ?_
    obtain ⟨a6, ha6, e⟩ := e
    obtain ⟨h7, e1, e⟩ := e
    refine xw_hlas (o := p3) (show xm_Imp g Γ 9 (xi_las 10) from xs_las hG hΓ dX0_against_9) ha6 e1 ?_
    refine xw_goto (show xm_Imp g Γ 10 (xi_goto 17) from xs_goto hΓ dX0_against_10 (by decide)) ?_
    refine xw_psh (v := (.int (0))) (show xm_Imp g Γ 17 (xi_psh (.int (0)) 18) from xs_iconst hΓ dX0_against_17 (by decide)) ?_
    exact xw_iret (show xm_Imp g Γ 18 (xi_iret .int _) from xs_ireturn hΓ rfl dX0_against_18) (xn_int _) ⟨_, rfl, e⟩
  rcases e with ⟨ec, e⟩ | ⟨ec, e⟩
  · refine Or.inl ⟨ec, ?_⟩
    refine xw_ast (ls' := [some (va_rf p0), some (.int p1), some (.int p2), some (va_rf p3), some (.ref q9)]) (show xm_Imp g Γ 13 (xi_ast 4 15) from xs_astore hΓ dX0_against_13 (Nat.le_of_ble_eq_true rfl)) ((xm_s1_o (o := p3) rfl).trans rfl) ?_
    refine xw_psh (v := (.int (1))) (show xm_Imp g Γ 15 (xi_psh (.int (1)) 16) from xs_iconst hΓ dX0_against_15 (by decide)) ?_
    exact xw_iret (show xm_Imp g Γ 16 (xi_iret .int _) from xs_ireturn hΓ rfl dX0_against_16) (xn_int _) ⟨_, rfl, e⟩
  refine Or.inr ⟨ec, ?_⟩
  exact e.elim
noncomputable def F_X0_expectation (g : xm_G) (p0 : Option Nat) (p1 : Int32) (p2 : Int32) (p3 : Option Nat) (h : xm_H) (bc : Nat) (bs : Nat) (Q : Int32 → xm_H → Prop) : Prop :=
 xt_b p0 (fun a1 =>
 xt_b (xh_is 0 h a1) (fun _ =>
 xt_c bc bs (fun m2 m3 => F_X1_expectation g a1 p1 p2 h m2 m3 (fun v5 h4 =>
 xt_b p3 (fun a6 =>
 xt_b (xh_sl h4 a6 0 v5.toInt64) (fun h7 =>
 Q 0 h7))) (fun E8 q9 h10 => xt_h E8 [("java/lang/IllegalArgumentException", Q 1 h10)]))))
set_option maxHeartbeats 4000000 in
theorem K_X0_expectation {g : xm_G} (hG : xm_Gw g) (p0 : Option Nat) (p1 : Int32) (p2 : Int32) (p3 : Option Nat) (h : xm_H) (bc : Nat) (bs : Nat) {Q : Int32 → xm_H → Prop} (e : F_X0_expectation g p0 p1 p2 p3 h bc bs Q) : xm_Run g M_X0_expectation 11 [va_rf p0, .int p1, .int p2, va_rf p3] h bc bs (fun v h' => ∃ r, v = some (.int r) ∧ Q r h') xm_no := by
  refine xm_Run.of2 (ls := [some (va_rf p0), some (.int p1), some (.int p2), some (va_rf p3), none]) pn_StringTableauLaw (by cases p0 <;> cases p3 <;> exact Nat.le_of_ble_eq_true rfl) (by cases p0 <;> cases p3 <;> rfl) (fun Γ hΓ => ?_)
  show xm_W g Γ 0 [some (va_rf p0), some (.int p1), some (.int p2), some (va_rf p3), none] [] h bc bs
  unfold F_X0_expectation at e
  refine xw_aldo (x := p3) (show xm_Imp g Γ 0 (xi_ald 3 1) from xs_aload_n hΓ dX0_expectation_0) rfl ?_
  refine xw_psh (v := (.int (0))) (show xm_Imp g Γ 1 (xi_psh (.int (0)) 2) from xs_iconst hΓ dX0_expectation_1 (by decide)) ?_
  refine xw_aldo (x := p0) (show xm_Imp g Γ 2 (xi_ald 0 3) from xs_aload_n hΓ dX0_expectation_2) rfl ?_
  refine xw_ild (show xm_Imp g Γ 3 (xi_ild 1 4) from xs_iload_n hΓ dX0_expectation_3) rfl ?_
  refine xw_ild (show xm_Imp g Γ 4 (xi_ild 2 5) from xs_iload_n hΓ dX0_expectation_4) rfl ?_
  obtain ⟨a1, ha1, e⟩ := e
  obtain ⟨_, e0, e⟩ := e
  obtain ⟨m2, m3, ⟨em1, em2⟩, e⟩ := e
  refine xw_tHvi2 (o := p0) (show xm_Imp g Γ 5 (xi_virH g 0 M_X1_expectation 10 2 8 [("java/lang/IllegalArgumentException", 13)]) from xs_invVH hG hΓ k_X1_expectation rfl (hs0 := [("java/lang/IllegalArgumentException", 13)]) (xm_cov1 (by decide) (by decide) q1858 (xm_covN _ _ _)) (ci := 0) rfl q2027 q2028 q2029 dX0_expectation_5) (by simp [xm_stk, xv_cat, xc_int, xc_long, xc_float, xc_double, xc_ref]) ha1 e0 em1 em2 (K_X1_expectation hG a1 p1 p2 _ _ _ e) (fun v5 h4 e => ?_) (fun E8 q9 h10 e => ?_)
  · refine xw_i2l (show xm_Imp g Γ 8 (xi_i2l 9) from xs_i2l hΓ dX0_expectation_8) ?_
    obtain ⟨a6, ha6, e⟩ := e
    obtain ⟨h7, e1, e⟩ := e
    refine xw_hlas (o := p3) (show xm_Imp g Γ 9 (xi_las 10) from xs_las hG hΓ dX0_expectation_9) ha6 e1 ?_
    refine xw_goto (show xm_Imp g Γ 10 (xi_goto 17) from xs_goto hΓ dX0_expectation_10 (by decide)) ?_
    refine xw_psh (v := (.int (0))) (show xm_Imp g Γ 17 (xi_psh (.int (0)) 18) from xs_iconst hΓ dX0_expectation_17 (by decide)) ?_
    exact xw_iret (show xm_Imp g Γ 18 (xi_iret .int _) from xs_ireturn hΓ rfl dX0_expectation_18) (xn_int _) ⟨_, rfl, e⟩
  rcases e with ⟨ec, e⟩ | ⟨ec, e⟩
  · refine Or.inl ⟨ec, ?_⟩
    refine xw_ast (ls' := [some (va_rf p0), some (.int p1), some (.int p2), some (va_rf p3), some (.ref q9)]) (show xm_Imp g Γ 13 (xi_ast 4 15) from xs_astore hΓ dX0_expectation_13 (Nat.le_of_ble_eq_true rfl)) ((xm_s1_o (o := p3) rfl).trans rfl) ?_
    refine xw_psh (v := (.int (1))) (show xm_Imp g Γ 15 (xi_psh (.int (1)) 16) from xs_iconst hΓ dX0_expectation_15 (by decide)) ?_
    exact xw_iret (show xm_Imp g Γ 16 (xi_iret .int _) from xs_ireturn hΓ rfl dX0_expectation_16) (xn_int _) ⟨_, rfl, e⟩
  refine Or.inr ⟨ec, ?_⟩
  exact e.elim
noncomputable def F_X0_decompose (g : xm_G) (p0 : Option Nat) (p1 : Int32) (p2 : Int32) (p3 : Option Nat) (h : xm_H) (bc : Nat) (bs : Nat) (Q : Int32 → xm_H → Prop) : Prop :=
 xt_b p0 (fun a1 =>
 xt_b (xh_is 0 h a1) (fun _ =>
 xt_c bc bs (fun m2 m3 => F_X1_decompose g a1 p1 p2 h m2 m3 (fun v5 h4 =>
 xt_b p3 (fun a6 =>
 xt_b (xh_sl h4 a6 0 v5.toInt64) (fun h7 =>
 Q 0 h7))) (fun E8 q9 h10 => xt_h E8 [("java/lang/IllegalArgumentException", Q 1 h10)]))))
set_option maxHeartbeats 4000000 in
theorem K_X0_decompose {g : xm_G} (hG : xm_Gw g) (p0 : Option Nat) (p1 : Int32) (p2 : Int32) (p3 : Option Nat) (h : xm_H) (bc : Nat) (bs : Nat) {Q : Int32 → xm_H → Prop} (e : F_X0_decompose g p0 p1 p2 p3 h bc bs Q) : xm_Run g M_X0_decompose 11 [va_rf p0, .int p1, .int p2, va_rf p3] h bc bs (fun v h' => ∃ r, v = some (.int r) ∧ Q r h') xm_no := by
  refine xm_Run.of2 (ls := [some (va_rf p0), some (.int p1), some (.int p2), some (va_rf p3), none]) pn_StringTableauLaw (by cases p0 <;> cases p3 <;> exact Nat.le_of_ble_eq_true rfl) (by cases p0 <;> cases p3 <;> rfl) (fun Γ hΓ => ?_)
  show xm_W g Γ 0 [some (va_rf p0), some (.int p1), some (.int p2), some (va_rf p3), none] [] h bc bs
  unfold F_X0_decompose at e
  refine xw_aldo (x := p3) (show xm_Imp g Γ 0 (xi_ald 3 1) from xs_aload_n hΓ dX0_decompose_0) rfl ?_
  refine xw_psh (v := (.int (0))) (show xm_Imp g Γ 1 (xi_psh (.int (0)) 2) from xs_iconst hΓ dX0_decompose_1 (by decide)) ?_
  refine xw_aldo (x := p0) (show xm_Imp g Γ 2 (xi_ald 0 3) from xs_aload_n hΓ dX0_decompose_2) rfl ?_
  refine xw_ild (show xm_Imp g Γ 3 (xi_ild 1 4) from xs_iload_n hΓ dX0_decompose_3) rfl ?_
  refine xw_ild (show xm_Imp g Γ 4 (xi_ild 2 5) from xs_iload_n hΓ dX0_decompose_4) rfl ?_
  obtain ⟨a1, ha1, e⟩ := e
  obtain ⟨_, e0, e⟩ := e
  obtain ⟨m2, m3, ⟨em1, em2⟩, e⟩ := e
  refine xw_tHvi2 (o := p0) (show xm_Imp g Γ 5 (xi_virH g 0 M_X1_decompose 10 2 8 [("java/lang/IllegalArgumentException", 13)]) from xs_invVH hG hΓ k_X1_decompose rfl (hs0 := [("java/lang/IllegalArgumentException", 13)]) (xm_cov1 (by decide) (by decide) q1858 (xm_covN _ _ _)) (ci := 0) rfl q2035 q2036 q2037 dX0_decompose_5) (by simp [xm_stk, xv_cat, xc_int, xc_long, xc_float, xc_double, xc_ref]) ha1 e0 em1 em2 (K_X1_decompose hG a1 p1 p2 _ _ _ e) (fun v5 h4 e => ?_) (fun E8 q9 h10 e => ?_)
  · refine xw_i2l (show xm_Imp g Γ 8 (xi_i2l 9) from xs_i2l hΓ dX0_decompose_8) ?_
    obtain ⟨a6, ha6, e⟩ := e
    obtain ⟨h7, e1, e⟩ := e
    refine xw_hlas (o := p3) (show xm_Imp g Γ 9 (xi_las 10) from xs_las hG hΓ dX0_decompose_9) ha6 e1 ?_
    refine xw_goto (show xm_Imp g Γ 10 (xi_goto 17) from xs_goto hΓ dX0_decompose_10 (by decide)) ?_
    refine xw_psh (v := (.int (0))) (show xm_Imp g Γ 17 (xi_psh (.int (0)) 18) from xs_iconst hΓ dX0_decompose_17 (by decide)) ?_
    exact xw_iret (show xm_Imp g Γ 18 (xi_iret .int _) from xs_ireturn hΓ rfl dX0_decompose_18) (xn_int _) ⟨_, rfl, e⟩
  rcases e with ⟨ec, e⟩ | ⟨ec, e⟩
  · refine Or.inl ⟨ec, ?_⟩
    refine xw_ast (ls' := [some (va_rf p0), some (.int p1), some (.int p2), some (va_rf p3), some (.ref q9)]) (show xm_Imp g Γ 13 (xi_ast 4 15) from xs_astore hΓ dX0_decompose_13 (Nat.le_of_ble_eq_true rfl)) ((xm_s1_o (o := p3) rfl).trans rfl) ?_
    refine xw_psh (v := (.int (1))) (show xm_Imp g Γ 15 (xi_psh (.int (1)) 16) from xs_iconst hΓ dX0_decompose_15 (by decide)) ?_
    exact xw_iret (show xm_Imp g Γ 16 (xi_iret .int _) from xs_ireturn hΓ rfl dX0_decompose_16) (xn_int _) ⟨_, rfl, e⟩
  refine Or.inr ⟨ec, ?_⟩
  exact e.elim
noncomputable def F_X0_element (g : xm_G) (p0 : Option Nat) (p1 : Int32) (p2 : Int32) (p3 : Option Nat) (h : xm_H) (bc : Nat) (bs : Nat) (Q : Int32 → xm_H → Prop) : Prop :=
 xt_b p0 (fun a1 =>
 xt_b (xh_is 0 h a1) (fun _ =>
 xt_c bc bs (fun m2 m3 => F_X1_element g a1 p1 p2 h m2 m3 (fun v5 h4 =>
 xt_b p3 (fun a6 =>
 xt_b (xh_sl h4 a6 0 v5.toInt64) (fun h7 =>
 Q 0 h7))) (fun E8 q9 h10 => xt_h E8 [("java/lang/IndexOutOfBoundsException", Q 1 h10), ("java/lang/IllegalArgumentException", Q 2 h10)]))))
set_option maxHeartbeats 4000000 in
theorem K_X0_element {g : xm_G} (hG : xm_Gw g) (p0 : Option Nat) (p1 : Int32) (p2 : Int32) (p3 : Option Nat) (h : xm_H) (bc : Nat) (bs : Nat) {Q : Int32 → xm_H → Prop} (e : F_X0_element g p0 p1 p2 p3 h bc bs Q) : xm_Run g M_X0_element 11 [va_rf p0, .int p1, .int p2, va_rf p3] h bc bs (fun v h' => ∃ r, v = some (.int r) ∧ Q r h') xm_no := by
  refine xm_Run.of2 (ls := [some (va_rf p0), some (.int p1), some (.int p2), some (va_rf p3), none]) pn_StringTableauLaw (by cases p0 <;> cases p3 <;> exact Nat.le_of_ble_eq_true rfl) (by cases p0 <;> cases p3 <;> rfl) (fun Γ hΓ => ?_)
  show xm_W g Γ 0 [some (va_rf p0), some (.int p1), some (.int p2), some (va_rf p3), none] [] h bc bs
  unfold F_X0_element at e
  refine xw_aldo (x := p3) (show xm_Imp g Γ 0 (xi_ald 3 1) from xs_aload_n hΓ dX0_element_0) rfl ?_
  refine xw_psh (v := (.int (0))) (show xm_Imp g Γ 1 (xi_psh (.int (0)) 2) from xs_iconst hΓ dX0_element_1 (by decide)) ?_
  refine xw_aldo (x := p0) (show xm_Imp g Γ 2 (xi_ald 0 3) from xs_aload_n hΓ dX0_element_2) rfl ?_
  refine xw_ild (show xm_Imp g Γ 3 (xi_ild 1 4) from xs_iload_n hΓ dX0_element_3) rfl ?_
  refine xw_ild (show xm_Imp g Γ 4 (xi_ild 2 5) from xs_iload_n hΓ dX0_element_4) rfl ?_
  obtain ⟨a1, ha1, e⟩ := e
  obtain ⟨_, e0, e⟩ := e
  obtain ⟨m2, m3, ⟨em1, em2⟩, e⟩ := e
  refine xw_tHvi2 (o := p0) (show xm_Imp g Γ 5 (xi_virH g 0 M_X1_element 10 2 8 [("java/lang/IndexOutOfBoundsException", 13), ("java/lang/IllegalArgumentException", 17)]) from xs_invVH hG hΓ k_X1_element rfl (hs0 := [("java/lang/IndexOutOfBoundsException", 13), ("java/lang/IllegalArgumentException", 17)]) (xm_cov1 (by decide) (by decide) q1830 (xm_cov1 (by decide) (by decide) q1858 (xm_covN _ _ _))) (ci := 0) rfl q2043 q2044 q2045 dX0_element_5) (by simp [xm_stk, xv_cat, xc_int, xc_long, xc_float, xc_double, xc_ref]) ha1 e0 em1 em2 (K_X1_element hG a1 p1 p2 _ _ _ e) (fun v5 h4 e => ?_) (fun E8 q9 h10 e => ?_)
  · refine xw_i2l (show xm_Imp g Γ 8 (xi_i2l 9) from xs_i2l hΓ dX0_element_8) ?_
    obtain ⟨a6, ha6, e⟩ := e
    obtain ⟨h7, e1, e⟩ := e
    refine xw_hlas (o := p3) (show xm_Imp g Γ 9 (xi_las 10) from xs_las hG hΓ dX0_element_9) ha6 e1 ?_
    refine xw_goto (show xm_Imp g Γ 10 (xi_goto 21) from xs_goto hΓ dX0_element_10 (by decide)) ?_
    refine xw_psh (v := (.int (0))) (show xm_Imp g Γ 21 (xi_psh (.int (0)) 22) from xs_iconst hΓ dX0_element_21 (by decide)) ?_
    exact xw_iret (show xm_Imp g Γ 22 (xi_iret .int _) from xs_ireturn hΓ rfl dX0_element_22) (xn_int _) ⟨_, rfl, e⟩
  rcases e with ⟨ec, e⟩ | ⟨ec, e⟩
  · refine Or.inl ⟨ec, ?_⟩
    refine xw_ast (ls' := [some (va_rf p0), some (.int p1), some (.int p2), some (va_rf p3), some (.ref q9)]) (show xm_Imp g Γ 13 (xi_ast 4 15) from xs_astore hΓ dX0_element_13 (Nat.le_of_ble_eq_true rfl)) ((xm_s1_o (o := p3) rfl).trans rfl) ?_
    refine xw_psh (v := (.int (1))) (show xm_Imp g Γ 15 (xi_psh (.int (1)) 16) from xs_iconst hΓ dX0_element_15 (by decide)) ?_
    exact xw_iret (show xm_Imp g Γ 16 (xi_iret .int _) from xs_ireturn hΓ rfl dX0_element_16) (xn_int _) ⟨_, rfl, e⟩
  refine Or.inr ⟨ec, ?_⟩
  rcases e with ⟨ec, e⟩ | ⟨ec, e⟩
  · refine Or.inl ⟨ec, ?_⟩
    refine xw_ast (ls' := [some (va_rf p0), some (.int p1), some (.int p2), some (va_rf p3), some (.ref q9)]) (show xm_Imp g Γ 17 (xi_ast 4 19) from xs_astore hΓ dX0_element_17 (Nat.le_of_ble_eq_true rfl)) ((xm_s1_o (o := p3) rfl).trans rfl) ?_
    refine xw_psh (v := (.int (2))) (show xm_Imp g Γ 19 (xi_psh (.int (2)) 20) from xs_iconst hΓ dX0_element_19 (by decide)) ?_
    exact xw_iret (show xm_Imp g Γ 20 (xi_iret .int _) from xs_ireturn hΓ rfl dX0_element_20) (xn_int _) ⟨_, rfl, e⟩
  refine Or.inr ⟨ec, ?_⟩
  exact e.elim
noncomputable def F_X0_lightest (g : xm_G) (p0 : Option Nat) (p1 : Int32) (p2 : Option Nat) (h : xm_H) (bc : Nat) (bs : Nat) (Q : Int32 → xm_H → Prop) : Prop :=
 xt_b p0 (fun a1 =>
 xt_b (xh_is 0 h a1) (fun _ =>
 xt_c bc bs (fun m2 m3 => F_X1_lightest g a1 p1 h m2 m3 (fun v5 h4 =>
 xt_b p2 (fun a6 =>
 xt_b (xh_sl h4 a6 0 v5.toInt64) (fun h7 =>
 Q 0 h7))) (fun E8 q9 h10 => xt_h E8 [("java/lang/IndexOutOfBoundsException", Q 1 h10)]))))
set_option maxHeartbeats 4000000 in
theorem K_X0_lightest {g : xm_G} (hG : xm_Gw g) (p0 : Option Nat) (p1 : Int32) (p2 : Option Nat) (h : xm_H) (bc : Nat) (bs : Nat) {Q : Int32 → xm_H → Prop} (e : F_X0_lightest g p0 p1 p2 h bc bs Q) : xm_Run g M_X0_lightest 11 [va_rf p0, .int p1, va_rf p2] h bc bs (fun v h' => ∃ r, v = some (.int r) ∧ Q r h') xm_no := by
  refine xm_Run.of2 (ls := [some (va_rf p0), some (.int p1), some (va_rf p2), none]) pn_StringTableauLaw (by cases p0 <;> cases p2 <;> exact Nat.le_of_ble_eq_true rfl) (by cases p0 <;> cases p2 <;> rfl) (fun Γ hΓ => ?_)
  show xm_W g Γ 0 [some (va_rf p0), some (.int p1), some (va_rf p2), none] [] h bc bs
  unfold F_X0_lightest at e
  refine xw_aldo (x := p2) (show xm_Imp g Γ 0 (xi_ald 2 1) from xs_aload_n hΓ dX0_lightest_0) rfl ?_
  refine xw_psh (v := (.int (0))) (show xm_Imp g Γ 1 (xi_psh (.int (0)) 2) from xs_iconst hΓ dX0_lightest_1 (by decide)) ?_
  refine xw_aldo (x := p0) (show xm_Imp g Γ 2 (xi_ald 0 3) from xs_aload_n hΓ dX0_lightest_2) rfl ?_
  refine xw_ild (show xm_Imp g Γ 3 (xi_ild 1 4) from xs_iload_n hΓ dX0_lightest_3) rfl ?_
  obtain ⟨a1, ha1, e⟩ := e
  obtain ⟨_, e0, e⟩ := e
  obtain ⟨m2, m3, ⟨em1, em2⟩, e⟩ := e
  refine xw_tHvi1 (o := p0) (show xm_Imp g Γ 4 (xi_virH g 0 M_X1_lightest 10 1 7 [("java/lang/IndexOutOfBoundsException", 12)]) from xs_invVH hG hΓ k_X1_lightest rfl (hs0 := [("java/lang/IndexOutOfBoundsException", 12)]) (xm_cov1 (by decide) (by decide) q1830 (xm_covN _ _ _)) (ci := 0) rfl q2051 q2052 q2053 dX0_lightest_4) (by simp [xm_stk, xv_cat, xc_int, xc_long, xc_float, xc_double, xc_ref]) ha1 e0 em1 em2 (K_X1_lightest hG a1 p1 _ _ _ e) (fun v5 h4 e => ?_) (fun E8 q9 h10 e => ?_)
  · refine xw_i2l (show xm_Imp g Γ 7 (xi_i2l 8) from xs_i2l hΓ dX0_lightest_7) ?_
    obtain ⟨a6, ha6, e⟩ := e
    obtain ⟨h7, e1, e⟩ := e
    refine xw_hlas (o := p2) (show xm_Imp g Γ 8 (xi_las 9) from xs_las hG hΓ dX0_lightest_8) ha6 e1 ?_
    refine xw_goto (show xm_Imp g Γ 9 (xi_goto 15) from xs_goto hΓ dX0_lightest_9 (by decide)) ?_
    refine xw_psh (v := (.int (0))) (show xm_Imp g Γ 15 (xi_psh (.int (0)) 16) from xs_iconst hΓ dX0_lightest_15 (by decide)) ?_
    exact xw_iret (show xm_Imp g Γ 16 (xi_iret .int _) from xs_ireturn hΓ rfl dX0_lightest_16) (xn_int _) ⟨_, rfl, e⟩
  rcases e with ⟨ec, e⟩ | ⟨ec, e⟩
  · refine Or.inl ⟨ec, ?_⟩
    refine xw_ast (ls' := [some (va_rf p0), some (.int p1), some (va_rf p2), some (.ref q9)]) (show xm_Imp g Γ 12 (xi_ast 3 13) from xs_astore_n hΓ dX0_lightest_12 (Nat.le_of_ble_eq_true rfl)) ((xm_s1_o (o := p2) rfl).trans rfl) ?_
    refine xw_psh (v := (.int (1))) (show xm_Imp g Γ 13 (xi_psh (.int (1)) 14) from xs_iconst hΓ dX0_lightest_13 (by decide)) ?_
    exact xw_iret (show xm_Imp g Γ 14 (xi_iret .int _) from xs_ireturn hΓ rfl dX0_lightest_14) (xn_int _) ⟨_, rfl, e⟩
  refine Or.inr ⟨ec, ?_⟩
  exact e.elim
noncomputable def F_X0_pushed (g : xm_G) (p0 : Option Nat) (p1 : Int32) (p2 : Int32) (p3 : Int32) (p4 : Int32) (p5 : Int32) (p6 : Option Nat) (h : xm_H) (bc : Nat) (bs : Nat) (Q : Int32 → xm_H → Prop) : Prop :=
 xt_b p0 (fun a1 =>
 xt_b (xh_is 0 h a1) (fun _ =>
 xt_c bc bs (fun m2 m3 => F_X1_pushed g a1 p1 p2 p3 p4 p5 h m2 m3 (fun v5 h4 =>
 xt_b p6 (fun a6 =>
 xt_b (xh_sl h4 a6 0 v5.toInt64) (fun h7 =>
 Q 0 h7))) (fun E8 q9 h10 => xt_h E8 [("java/lang/IndexOutOfBoundsException", Q 1 h10), ("java/lang/IllegalArgumentException", Q 2 h10), ("java/lang/IllegalStateException", Q 3 h10)]))))
set_option maxHeartbeats 4000000 in
theorem K_X0_pushed {g : xm_G} (hG : xm_Gw g) (p0 : Option Nat) (p1 : Int32) (p2 : Int32) (p3 : Int32) (p4 : Int32) (p5 : Int32) (p6 : Option Nat) (h : xm_H) (bc : Nat) (bs : Nat) {Q : Int32 → xm_H → Prop} (e : F_X0_pushed g p0 p1 p2 p3 p4 p5 p6 h bc bs Q) : xm_Run g M_X0_pushed 13 [va_rf p0, .int p1, .int p2, .int p3, .int p4, .int p5, va_rf p6] h bc bs (fun v h' => ∃ r, v = some (.int r) ∧ Q r h') xm_no := by
  refine xm_Run.of2 (ls := [some (va_rf p0), some (.int p1), some (.int p2), some (.int p3), some (.int p4), some (.int p5), some (va_rf p6), none]) pn_StringTableauLaw (by cases p0 <;> cases p6 <;> exact Nat.le_of_ble_eq_true rfl) (by cases p0 <;> cases p6 <;> rfl) (fun Γ hΓ => ?_)
  show xm_W g Γ 0 [some (va_rf p0), some (.int p1), some (.int p2), some (.int p3), some (.int p4), some (.int p5), some (va_rf p6), none] [] h bc bs
  unfold F_X0_pushed at e
  refine xw_aldo (x := p6) (show xm_Imp g Γ 0 (xi_ald 6 2) from xs_aload hΓ dX0_pushed_0) rfl ?_
  refine xw_psh (v := (.int (0))) (show xm_Imp g Γ 2 (xi_psh (.int (0)) 3) from xs_iconst hΓ dX0_pushed_2 (by decide)) ?_
  refine xw_aldo (x := p0) (show xm_Imp g Γ 3 (xi_ald 0 4) from xs_aload_n hΓ dX0_pushed_3) rfl ?_
  refine xw_ild (show xm_Imp g Γ 4 (xi_ild 1 5) from xs_iload_n hΓ dX0_pushed_4) rfl ?_
  refine xw_ild (show xm_Imp g Γ 5 (xi_ild 2 6) from xs_iload_n hΓ dX0_pushed_5) rfl ?_
  refine xw_ild (show xm_Imp g Γ 6 (xi_ild 3 7) from xs_iload_n hΓ dX0_pushed_6) rfl ?_
  refine xw_ild (show xm_Imp g Γ 7 (xi_ild 4 9) from xs_iload hΓ dX0_pushed_7) rfl ?_
  refine xw_ild (show xm_Imp g Γ 9 (xi_ild 5 11) from xs_iload hΓ dX0_pushed_9) rfl ?_
  obtain ⟨a1, ha1, e⟩ := e
  obtain ⟨_, e0, e⟩ := e
  obtain ⟨m2, m3, ⟨em1, em2⟩, e⟩ := e
  refine xw_tHvi5 (o := p0) (show xm_Imp g Γ 11 (xi_virH g 0 M_X1_pushed 12 5 14 [("java/lang/IndexOutOfBoundsException", 19), ("java/lang/IllegalArgumentException", 23), ("java/lang/IllegalStateException", 27)]) from xs_invVH hG hΓ k_X1_pushed rfl (hs0 := [("java/lang/IndexOutOfBoundsException", 19), ("java/lang/IllegalArgumentException", 23), ("java/lang/IllegalStateException", 27)]) (xm_cov1 (by decide) (by decide) q1830 (xm_cov1 (by decide) (by decide) q1858 (xm_cov1 (by decide) (by decide) q1880 (xm_covN _ _ _)))) (ci := 0) rfl q2061 q2062 q2063 dX0_pushed_11) (by simp [xm_stk, xv_cat, xc_int, xc_long, xc_float, xc_double, xc_ref]) ha1 e0 em1 em2 (K_X1_pushed hG a1 p1 p2 p3 p4 p5 _ _ _ e) (fun v5 h4 e => ?_) (fun E8 q9 h10 e => ?_)
  · refine xw_i2l (show xm_Imp g Γ 14 (xi_i2l 15) from xs_i2l hΓ dX0_pushed_14) ?_
    obtain ⟨a6, ha6, e⟩ := e
    obtain ⟨h7, e1, e⟩ := e
    refine xw_hlas (o := p6) (show xm_Imp g Γ 15 (xi_las 16) from xs_las hG hΓ dX0_pushed_15) ha6 e1 ?_
    refine xw_goto (show xm_Imp g Γ 16 (xi_goto 31) from xs_goto hΓ dX0_pushed_16 (by decide)) ?_
    refine xw_psh (v := (.int (0))) (show xm_Imp g Γ 31 (xi_psh (.int (0)) 32) from xs_iconst hΓ dX0_pushed_31 (by decide)) ?_
    exact xw_iret (show xm_Imp g Γ 32 (xi_iret .int _) from xs_ireturn hΓ rfl dX0_pushed_32) (xn_int _) ⟨_, rfl, e⟩
  rcases e with ⟨ec, e⟩ | ⟨ec, e⟩
  · refine Or.inl ⟨ec, ?_⟩
    refine xw_ast (ls' := [some (va_rf p0), some (.int p1), some (.int p2), some (.int p3), some (.int p4), some (.int p5), some (va_rf p6), some (.ref q9)]) (show xm_Imp g Γ 19 (xi_ast 7 21) from xs_astore hΓ dX0_pushed_19 (Nat.le_of_ble_eq_true rfl)) ((xm_s1_o (o := p6) rfl).trans rfl) ?_
    refine xw_psh (v := (.int (1))) (show xm_Imp g Γ 21 (xi_psh (.int (1)) 22) from xs_iconst hΓ dX0_pushed_21 (by decide)) ?_
    exact xw_iret (show xm_Imp g Γ 22 (xi_iret .int _) from xs_ireturn hΓ rfl dX0_pushed_22) (xn_int _) ⟨_, rfl, e⟩
  refine Or.inr ⟨ec, ?_⟩
  rcases e with ⟨ec, e⟩ | ⟨ec, e⟩
  · refine Or.inl ⟨ec, ?_⟩
    refine xw_ast (ls' := [some (va_rf p0), some (.int p1), some (.int p2), some (.int p3), some (.int p4), some (.int p5), some (va_rf p6), some (.ref q9)]) (show xm_Imp g Γ 23 (xi_ast 7 25) from xs_astore hΓ dX0_pushed_23 (Nat.le_of_ble_eq_true rfl)) ((xm_s1_o (o := p6) rfl).trans rfl) ?_
    refine xw_psh (v := (.int (2))) (show xm_Imp g Γ 25 (xi_psh (.int (2)) 26) from xs_iconst hΓ dX0_pushed_25 (by decide)) ?_
    exact xw_iret (show xm_Imp g Γ 26 (xi_iret .int _) from xs_ireturn hΓ rfl dX0_pushed_26) (xn_int _) ⟨_, rfl, e⟩
  refine Or.inr ⟨ec, ?_⟩
  rcases e with ⟨ec, e⟩ | ⟨ec, e⟩
  · refine Or.inl ⟨ec, ?_⟩
    refine xw_ast (ls' := [some (va_rf p0), some (.int p1), some (.int p2), some (.int p3), some (.int p4), some (.int p5), some (va_rf p6), some (.ref q9)]) (show xm_Imp g Γ 27 (xi_ast 7 29) from xs_astore hΓ dX0_pushed_27 (Nat.le_of_ble_eq_true rfl)) ((xm_s1_o (o := p6) rfl).trans rfl) ?_
    refine xw_psh (v := (.int (3))) (show xm_Imp g Γ 29 (xi_psh (.int (3)) 30) from xs_iconst hΓ dX0_pushed_29 (by decide)) ?_
    exact xw_iret (show xm_Imp g Γ 30 (xi_iret .int _) from xs_ireturn hΓ rfl dX0_pushed_30) (xn_int _) ⟨_, rfl, e⟩
  refine Or.inr ⟨ec, ?_⟩
  exact e.elim
