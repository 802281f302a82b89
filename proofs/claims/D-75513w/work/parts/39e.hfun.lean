/-! METHODS ON KNOWN CELLS as functions (printed by gen/mkhfun.py) -/
set_option maxRecDepth 100000
noncomputable def F_J14_init_2 (g : xm_G) (p0 : Nat) (p1 : Option Nat) (p2 : Option Nat) (p3 : Int32) (p4 : Int32) (h : xm_H) : Option (xm_H) :=
 xo_b (F_J13_init_3 g p0 p1 p2 p3 p4 h) (fun v1 =>
 some v1)
set_option maxHeartbeats 4000000 in
theorem K_J14_init_2 {g : xm_G} (hG : xm_Gw g) (p0 : Nat) (p1 : Option Nat) (p2 : Option Nat) (p3 : Int32) (p4 : Int32) (h : xm_H) {o : xm_H} (e : F_J14_init_2 g p0 p1 p2 p3 p4 h = some o) {Q : xm_P} {X : xm_X} (hQ : Q none o) : xm_Run g M_J14_init_2 3 [.ref p0, va_rf p1, va_rf p2, .int p3, .int p4] h 0 0 Q X := by
  refine xm_Run.of2 (ls := [some (.ref p0), some (va_rf p1), some (va_rf p2), some (.int p3), some (.int p4)]) pn_java_lang_Exception (by cases p1 <;> cases p2 <;> exact Nat.le_of_ble_eq_true rfl) (by cases p1 <;> cases p2 <;> rfl) (fun Γ hΓ => ?_)
  obtain ⟨P0, hP0, hp⟩ : ∃ P : xm_H → Prop, (∀ o, P o → Q none o) ∧ P o := ⟨fun o => Q none o, fun _ h => h, hQ⟩
  clear hQ
  show xm_W g Γ 0 [some (.ref p0), some (va_rf p1), some (va_rf p2), some (.int p3), some (.int p4)] [] h 0 0
  unfold F_J14_init_2 at e
  refine xw_ald (show xm_Imp g Γ 0 (xi_ald 0 1) from xs_aload_n hΓ dJ14_init_2_0) rfl ?_
  refine xw_aldo (x := p1) (show xm_Imp g Γ 1 (xi_ald 1 2) from xs_aload_n hΓ dJ14_init_2_1) rfl ?_
  refine xw_aldo (x := p2) (show xm_Imp g Γ 2 (xi_ald 2 3) from xs_aload_n hΓ dJ14_init_2_2) rfl ?_
  refine xw_ild (show xm_Imp g Γ 3 (xi_ild 3 4) from xs_iload_n hΓ dJ14_init_2_3) rfl ?_
  refine xw_ild (show xm_Imp g Γ 4 (xi_ild 4 6) from xs_iload hΓ dJ14_init_2_4) rfl ?_
  obtain ⟨v1, e1, e⟩ := xo_b_s e
  refine xw_pu4 (o := (some p0)) (show xm_Imp g Γ 6 (xi_spe g M_J13_init_3 2 4 9) from xs_invI hG hΓ k_J13_init_3 rfl q793 q794 rfl dJ14_init_2_6) rfl rfl (fun Q X hQ => K_J13_init_3 hG p0 p1 p2 p3 p4 _ e1 hQ) ?_
  exact xw_vret (show xm_Imp g Γ 9 (xi_vret _) from xs_return hΓ rfl dJ14_init_2_9) (hP0 _ (xl_fin e hp))
noncomputable def F_X7_init (g : xm_G) (p0 : Nat) (p1 : Int32) (p2 : Int32) (h : xm_H) : Option (xm_H) :=
 xo_b (F_J14_init_2 g p0 none none 0 0 h) (fun v1 =>
 xo_b (xh_w [(6, 6)] v1 p0 (.int p1)) (fun h2 =>
 xo_b (xh_w [(6, 7)] h2 p0 (.int p2)) (fun h3 =>
 some h3)))
set_option maxHeartbeats 4000000 in
theorem K_X7_init {g : xm_G} (hG : xm_Gw g) (p0 : Nat) (p1 : Int32) (p2 : Int32) (h : xm_H) {o : xm_H} (e : F_X7_init g p0 p1 p2 h = some o) {Q : xm_P} {X : xm_X} (hQ : Q none o) : xm_Run g M_X7_init 4 [.ref p0, .int p1, .int p2] h 0 0 Q X := by
  refine xm_Run.of pn_StringTableau_ParseException (Nat.le_of_ble_eq_true rfl) (fun Γ hΓ => ?_)
  obtain ⟨P0, hP0, hp⟩ : ∃ P : xm_H → Prop, (∀ o, P o → Q none o) ∧ P o := ⟨fun o => Q none o, fun _ h => h, hQ⟩
  clear hQ
  show xm_W g Γ 0 [some (.ref p0), some (.int p1), some (.int p2)] [] h 0 0
  unfold F_X7_init at e
  refine xw_ald (show xm_Imp g Γ 0 (xi_ald 0 1) from xs_aload_n hΓ dX7_init_0) rfl ?_
  refine xw_psh (v := .null) (show xm_Imp g Γ 1 (xi_psh .null 2) from xs_null hΓ dX7_init_1) ?_
  refine xw_psh (v := .null) (show xm_Imp g Γ 2 (xi_psh .null 3) from xs_null hΓ dX7_init_2) ?_
  refine xw_psh (v := (.int (0))) (show xm_Imp g Γ 3 (xi_psh (.int (0)) 4) from xs_iconst hΓ dX7_init_3 (by decide)) ?_
  refine xw_psh (v := (.int (0))) (show xm_Imp g Γ 4 (xi_psh (.int (0)) 5) from xs_iconst hΓ dX7_init_4 (by decide)) ?_
  obtain ⟨v1, e1, e⟩ := xo_b_s e
  refine xw_pu4 (o := (some p0)) (show xm_Imp g Γ 5 (xi_spe g M_J14_init_2 3 4 8) from xs_invI hG hΓ k_J14_init_2 rfl q790 q791 rfl dX7_init_5) rfl rfl (fun Q X hQ => K_J14_init_2 hG p0 none none 0 0 _ e1 hQ) ?_
  refine xw_ald (show xm_Imp g Γ 8 (xi_ald 0 9) from xs_aload_n hΓ dX7_init_8) rfl ?_
  refine xw_ild (show xm_Imp g Γ 9 (xi_ild 1 10) from xs_iload_n hΓ dX7_init_9) rfl ?_
  obtain ⟨h2, e1, e⟩ := xo_b_s e
  refine xw_pt1 (o := (some p0)) (show xm_Imp g Γ 10 (xi_put 6 6 (.int) 13) from xs_putF hG hΓ (ci := 6) (kf := 6) rfl (Nat.le_of_ble_eq_true rfl) rfl rfl rfl (by decide +kernel) q796 dX7_init_10) rfl (xf_int _) e1 ?_
  refine xw_ald (show xm_Imp g Γ 13 (xi_ald 0 14) from xs_aload_n hΓ dX7_init_13) rfl ?_
  refine xw_ild (show xm_Imp g Γ 14 (xi_ild 2 15) from xs_iload_n hΓ dX7_init_14) rfl ?_
  obtain ⟨h3, e1, e⟩ := xo_b_s e
  refine xw_pt1 (o := (some p0)) (show xm_Imp g Γ 15 (xi_put 6 7 (.int) 18) from xs_putF hG hΓ (ci := 6) (kf := 7) rfl (Nat.le_of_ble_eq_true rfl) rfl rfl rfl (by decide +kernel) q798 dX7_init_15) rfl (xf_int _) e1 ?_
  exact xw_vret (show xm_Imp g Γ 18 (xi_vret _) from xs_return hΓ rfl dX7_init_18) (hP0 _ (xl_fin e hp))
noncomputable def F_X6_require (g : xm_G) (p0 : Nat) (p1 : Int32) (p2 : Int32) (h : xm_H) (bc : Nat) (bs : Nat) (Q : xm_H → Prop) (X : xm_X) : Prop :=
 (if p1 = 0 then
 xt_new h bc bs 8 (.inr (6, [.null, .null, .null, .null, .null, .int 0, .int 0, .int 0])) (fun a1 h2 b3 b4 =>
 xt_b (xh_fi [(5, 2)] h2 p0) (fun v5 =>
 xt_b (F_X7_init g a1 p2 v5 h2) (fun v6 =>
 xt_b (xh_is 6 v6 a1) (fun _ =>
 (∀ w x, v6 a1 = some (w, x) → w = true) ∧ X "StringTableau$ParseException" a1 v6)))) else
 Q h)
set_option maxHeartbeats 4000000 in
theorem K_X6_require {g : xm_G} (hG : xm_Gw g) (p0 : Nat) (p1 : Int32) (p2 : Int32) (h : xm_H) (bc : Nat) (bs : Nat) {Q : xm_H → Prop} {X : xm_X} (e : F_X6_require g p0 p1 p2 h bc bs Q X) : xm_Run g M_X6_require 8 [.ref p0, .int p1, .int p2] h bc bs (fun v h' => v = none ∧ Q h') X := by
  refine xm_Run.of pn_StringTableau_Parser (Nat.le_of_ble_eq_true rfl) (fun Γ hΓ => ?_)
  show xm_W g Γ 0 [some (.ref p0), some (.int p1), some (.int p2)] [] h bc bs
  unfold F_X6_require at e
  refine xw_ild (show xm_Imp g Γ 0 (xi_ild 1 1) from xs_iload_n hΓ dX6_require_0) rfl ?_
  refine xw_if (show xm_Imp g Γ 1 (xi_if (fun x => x = 0) 4 17) from xs_if_ne hΓ dX6_require_1 (by decide)) (fun c => ?_) (fun c => ?_)
  · rw [if_pos c] at e
    refine xw_new (show xm_Imp g Γ 4 (xi_new 6 8 [.null, .null, .null, .null, .null, .int 0, .int 0, .int 0] 7) from xs_new hG hΓ (ci := 6) rfl q778 q779 q146 rfl tyX7 tyX7_ok (xm_df 8 (by decide +kernel)) dX6_require_4) e (fun a1 h2 b3 b4 e => ?_)
    refine xw_dup (show xm_Imp g Γ 7 (xi_dup 8) from xs_dup hΓ dX6_require_7) rfl ?_
    refine xw_ild (show xm_Imp g Γ 8 (xi_ild 2 9) from xs_iload_n hΓ dX6_require_8) rfl ?_
    refine xw_ald (show xm_Imp g Γ 9 (xi_ald 0 10) from xs_aload_n hΓ dX6_require_9) rfl ?_
    obtain ⟨v5, e1, e⟩ := e
    refine xw_gi1 (o := (some p0)) (show xm_Imp g Γ 10 (xi_get 5 2 13) from xs_get hG hΓ (ci := 5) (kf := 2) rfl (Nat.le_of_ble_eq_true rfl) q725 dX6_require_10) rfl e1 ?_
    obtain ⟨v6, e1, e⟩ := e
    refine xw_pu2 (o := (some a1)) (show xm_Imp g Γ 13 (xi_spe g M_X7_init 4 2 16) from xs_invI hG hΓ k_X7_init rfl q787 q788 rfl dX6_require_13) rfl rfl (fun Q X hQ => K_X7_init hG a1 p2 v5 _ e1 hQ) ?_
    obtain ⟨_, e1, e⟩ := e
    exact xw_athr (show xm_Imp g Γ 16 (xi_athr 6 "StringTableau$ParseException" X) from xs_athr hG hΓ rfl (ci := 6) rfl dX6_require_16) e1 e.1 e.2
  · rw [if_neg c] at e
    exact xw_vret (show xm_Imp g Γ 17 (xi_vret _) from xs_return hΓ rfl dX6_require_17) ⟨rfl, e⟩
noncomputable def B_X6_number_14 (g : xm_G) (l0 : Nat) (l1 : Int32) (l2 : Int32) (l3 : Int32) (s0 : Option Nat) (s1 : Int32) (h : xm_H) (bc : Nat) (bs : Nat) (Q : Int32 → xm_H → Prop) (X : xm_X) : Prop :=
 xt_b s0 (fun a2 =>
 xt_b (xh_is 5 h a2) (fun _ =>
 xt_c bc bs (fun m3 m4 => F_X6_require g a2 s1 1 h m3 m4 (fun h5 =>
 xt_b (xh_fi [(5, 4)] h5 l0) (fun v7 =>
 xt_b (xh_is 5 h5 l0) (fun _ =>
 xt_c (bc - m3) (bs - m4) (fun m8 m9 => F_X6_require g l0 (F_X1_inRange v7 l1 l2) l3 h5 m8 m9 (fun h10 =>
 xt_b (xh_fi [(5, 4)] h10 l0) (fun v12 =>
 xt_b (xh_is 5 h10 l0) (fun _ =>
 xt_c ((bc - m3) - m8) ((bs - m4) - m9) (fun m13 m14 => F_X6_advance g l0 h10 m13 m14 (fun h15 =>
 Q v12 h15))))) X)))) X)))
noncomputable def F_X6_number (g : xm_G) (p0 : Nat) (p1 : Int32) (p2 : Int32) (p3 : Int32) (h : xm_H) (bc : Nat) (bs : Nat) (Q : Int32 → xm_H → Prop) (X : xm_X) : Prop :=
 xt_b (xh_fi [(5, 3)] h p0) (fun v1 =>
 B_X6_number_14 g p0 p1 p2 p3 (some p0) (if v1 = (3 : Int32) then 1 else 0) h bc bs Q X)
set_option maxHeartbeats 4000000 in
theorem K_X6_number {g : xm_G} (hG : xm_Gw g) (p0 : Nat) (p1 : Int32) (p2 : Int32) (p3 : Int32) (h : xm_H) (bc : Nat) (bs : Nat) {Q : Int32 → xm_H → Prop} {X : xm_X} (e : F_X6_number g p0 p1 p2 p3 h bc bs Q X) : xm_Run g M_X6_number 21 [.ref p0, .int p1, .int p2, .int p3] h bc bs (fun v h' => ∃ r, v = some (.int r) ∧ Q r h') X := by
  refine xm_Run.of pn_StringTableau_Parser (Nat.le_of_ble_eq_true rfl) (fun Γ hΓ => ?_)
  show xm_W g Γ 0 [some (.ref p0), some (.int p1), some (.int p2), some (.int p3), none] [] h bc bs
  have hB_14 : ∀ (l0 : Nat) (l1 : Int32) (l2 : Int32) (l3 : Int32) (s0 : Option Nat) (s1 : Int32) (h : xm_H) (bc : Nat) (bs : Nat), B_X6_number_14 g l0 l1 l2 l3 s0 s1 h bc bs Q X → xm_W g Γ 14 [some (.ref l0), some (.int l1), some (.int l2), some (.int l3), none] [.int s1, va_rf s0] h bc bs := by
    intro l0 l1 l2 l3 s0 s1 h bc bs e
    unfold B_X6_number_14 at e
    refine xw_psh (v := (.int (1))) (show xm_Imp g Γ 14 (xi_psh (.int (1)) 15) from xs_iconst hΓ dX6_number_14 (by decide)) ?_
    obtain ⟨a2, ha2, e⟩ := e
    obtain ⟨_, e0, e⟩ := e
    obtain ⟨m3, m4, ⟨em1, em2⟩, e⟩ := e
    refine xw_tXvu2 (o := s0) (show xm_Imp g Γ 15 (xi_virX g 5 M_X6_require 8 2 18 X) from xs_invVX hG hΓ k_X6_require rfl rfl (ci := 5) rfl q774 q776 qs6 dX6_number_15) (by simp [xm_stk, xv_cat, xc_int, xc_long, xc_float, xc_double, xc_ref]) ha2 e0 em1 em2 (K_X6_require hG a2 s1 1 _ _ _ e) (fun h5 e => ?_)
    refine xw_ald (show xm_Imp g Γ 18 (xi_ald 0 19) from xs_aload_n hΓ dX6_number_18) rfl ?_
    refine xw_ald (show xm_Imp g Γ 19 (xi_ald 0 20) from xs_aload_n hΓ dX6_number_19) rfl ?_
    obtain ⟨v7, e1, e⟩ := e
    refine xw_gi1 (o := (some l0)) (show xm_Imp g Γ 20 (xi_get 5 4 23) from xs_get hG hΓ (ci := 5) (kf := 4) rfl (Nat.le_of_ble_eq_true rfl) q727 dX6_number_20) rfl e1 ?_
    refine xw_ild (show xm_Imp g Γ 23 (xi_ild 1 24) from xs_iload_n hΓ dX6_number_23) rfl ?_
    refine xw_ild (show xm_Imp g Γ 24 (xi_ild 2 25) from xs_iload_n hΓ dX6_number_24) rfl ?_
    refine xw_sv3 (show xm_Imp g Γ 25 (xi_inv g M_X1_inRange 1 3 28) from xs_invSN hG hΓ k_X1_inRange rfl q412 q388 dX6_number_25) rfl (fun Q X hQ => K_X1_inRange hG v7 l1 l2 rfl hQ) ?_
    refine xw_ild (show xm_Imp g Γ 28 (xi_ild 3 29) from xs_iload_n hΓ dX6_number_28) rfl ?_
    obtain ⟨_, e0, e⟩ := e
    obtain ⟨m8, m9, ⟨em1, em2⟩, e⟩ := e
    refine xw_tXvu2 (o := (some l0)) (show xm_Imp g Γ 29 (xi_virX g 5 M_X6_require 8 2 32 X) from xs_invVX hG hΓ k_X6_require rfl rfl (ci := 5) rfl q774 q776 qs6 dX6_number_29) rfl rfl e0 em1 em2 (K_X6_require hG l0 (F_X1_inRange v7 l1 l2) l3 _ _ _ e) (fun h10 e => ?_)
    refine xw_ald (show xm_Imp g Γ 32 (xi_ald 0 33) from xs_aload_n hΓ dX6_number_32) rfl ?_
    obtain ⟨v12, e1, e⟩ := e
    refine xw_gi1 (o := (some l0)) (show xm_Imp g Γ 33 (xi_get 5 4 36) from xs_get hG hΓ (ci := 5) (kf := 4) rfl (Nat.le_of_ble_eq_true rfl) q727 dX6_number_33) rfl e1 ?_
    refine xw_ist (ls' := [some (.ref l0), some (.int l1), some (.int l2), some (.int l3), some (.int v12)]) (show xm_Imp g Γ 36 (xi_ist 4 38) from xs_istore hΓ dX6_number_36 (Nat.le_of_ble_eq_true rfl)) rfl ?_
    refine xw_ald (show xm_Imp g Γ 38 (xi_ald 0 39) from xs_aload_n hΓ dX6_number_38) rfl ?_
    obtain ⟨_, e0, e⟩ := e
    obtain ⟨m13, m14, ⟨em1, em2⟩, e⟩ := e
    refine xw_tvu0 (o := (some l0)) (show xm_Imp g Γ 39 (xi_vir g 5 M_X6_advance 20 0 42) from xs_invV hG hΓ k_X6_advance rfl (ci := 5) rfl q404 q406 qs1 dX6_number_39) rfl rfl e0 em1 em2 (K_X6_advance hG l0 _ _ _ e) (fun h15 e => ?_)
    refine xw_ild (show xm_Imp g Γ 42 (xi_ild 4 44) from xs_iload hΓ dX6_number_42) rfl ?_
    exact xw_iret (show xm_Imp g Γ 44 (xi_iret .int _) from xs_ireturn hΓ rfl dX6_number_44) (xn_int _) ⟨_, rfl, e⟩
  unfold F_X6_number at e
  refine xw_ald (show xm_Imp g Γ 0 (xi_ald 0 1) from xs_aload_n hΓ dX6_number_0) rfl ?_
  refine xw_ald (show xm_Imp g Γ 1 (xi_ald 0 2) from xs_aload_n hΓ dX6_number_1) rfl ?_
  obtain ⟨v1, e1, e⟩ := e
  refine xw_gi1 (o := (some p0)) (show xm_Imp g Γ 2 (xi_get 5 3 5) from xs_get hG hΓ (ci := 5) (kf := 3) rfl (Nat.le_of_ble_eq_true rfl) q726 dX6_number_2) rfl e1 ?_
  refine xw_psh (v := (.int (3))) (show xm_Imp g Γ 5 (xi_psh (.int (3)) 6) from xs_iconst hΓ dX6_number_5 (by decide)) ?_
  refine xw_ic (show xm_Imp g Γ 6 (xi_ic (fun x y => x = y) 9 13) from xs_icmp_ne hΓ dX6_number_6 (by decide)) (fun c => ?_) (fun c => ?_)
  · rw [if_pos c] at e
    refine xw_psh (v := (.int (1))) (show xm_Imp g Γ 9 (xi_psh (.int (1)) 10) from xs_iconst hΓ dX6_number_9 (by decide)) ?_
    refine xw_goto (show xm_Imp g Γ 10 (xi_goto 14) from xs_goto hΓ dX6_number_10 (by decide)) ?_
    exact hB_14 _ _ _ _ _ _ _ _ _ e
  · rw [if_neg c] at e
    refine xw_psh (v := (.int (0))) (show xm_Imp g Γ 13 (xi_psh (.int (0)) 14) from xs_iconst hΓ dX6_number_13 (by decide)) ?_
    exact hB_14 _ _ _ _ _ _ _ _ _ e
noncomputable def B_X6_end_15 (g : xm_G) (l0 : Nat) (s0 : Option Nat) (s1 : Int32) (h : xm_H) (bc : Nat) (bs : Nat) (Q : xm_H → Prop) (X : xm_X) : Prop :=
 xt_b s0 (fun a2 =>
 xt_b (xh_is 5 h a2) (fun _ =>
 xt_c bc bs (fun m3 m4 => F_X6_require g a2 s1 1 h m3 m4 (fun h5 =>
 xt_b (xh_is 5 h5 l0) (fun _ =>
 xt_c (bc - m3) (bs - m4) (fun m7 m8 => F_X6_advance g l0 h5 m7 m8 (fun h9 =>
 Q h9)))) X)))
noncomputable def F_X6_end (g : xm_G) (p0 : Nat) (h : xm_H) (bc : Nat) (bs : Nat) (Q : xm_H → Prop) (X : xm_X) : Prop :=
 xt_b (xh_fi [(5, 3)] h p0) (fun v1 =>
 B_X6_end_15 g p0 (some p0) (if v1 = (6 : Int32) then 1 else 0) h bc bs Q X)
set_option maxHeartbeats 4000000 in
theorem K_X6_end {g : xm_G} (hG : xm_Gw g) (p0 : Nat) (h : xm_H) (bc : Nat) (bs : Nat) {Q : xm_H → Prop} {X : xm_X} (e : F_X6_end g p0 h bc bs Q X) : xm_Run g M_X6_end 21 [.ref p0] h bc bs (fun v h' => v = none ∧ Q h') X := by
  refine xm_Run.of pn_StringTableau_Parser (Nat.le_of_ble_eq_true rfl) (fun Γ hΓ => ?_)
  show xm_W g Γ 0 [some (.ref p0)] [] h bc bs
  have hB_15 : ∀ (l0 : Nat) (s0 : Option Nat) (s1 : Int32) (h : xm_H) (bc : Nat) (bs : Nat), B_X6_end_15 g l0 s0 s1 h bc bs Q X → xm_W g Γ 15 [some (.ref l0)] [.int s1, va_rf s0] h bc bs := by
    intro l0 s0 s1 h bc bs e
    unfold B_X6_end_15 at e
    refine xw_psh (v := (.int (1))) (show xm_Imp g Γ 15 (xi_psh (.int (1)) 16) from xs_iconst hΓ dX6_end_15 (by decide)) ?_
    obtain ⟨a2, ha2, e⟩ := e
    obtain ⟨_, e0, e⟩ := e
    obtain ⟨m3, m4, ⟨em1, em2⟩, e⟩ := e
    refine xw_tXvu2 (o := s0) (show xm_Imp g Γ 16 (xi_virX g 5 M_X6_require 8 2 19 X) from xs_invVX hG hΓ k_X6_require rfl rfl (ci := 5) rfl q774 q776 qs6 dX6_end_16) (by simp [xm_stk, xv_cat, xc_int, xc_long, xc_float, xc_double, xc_ref]) ha2 e0 em1 em2 (K_X6_require hG a2 s1 1 _ _ _ e) (fun h5 e => ?_)
    refine xw_ald (show xm_Imp g Γ 19 (xi_ald 0 20) from xs_aload_n hΓ dX6_end_19) rfl ?_
    obtain ⟨_, e0, e⟩ := e
    obtain ⟨m7, m8, ⟨em1, em2⟩, e⟩ := e
    refine xw_tvu0 (o := (some l0)) (show xm_Imp g Γ 20 (xi_vir g 5 M_X6_advance 20 0 23) from xs_invV hG hΓ k_X6_advance rfl (ci := 5) rfl q404 q406 qs1 dX6_end_20) rfl rfl e0 em1 em2 (K_X6_advance hG l0 _ _ _ e) (fun h9 e => ?_)
    exact xw_vret (show xm_Imp g Γ 23 (xi_vret _) from xs_return hΓ rfl dX6_end_23) ⟨rfl, e⟩
  unfold F_X6_end at e
  refine xw_ald (show xm_Imp g Γ 0 (xi_ald 0 1) from xs_aload_n hΓ dX6_end_0) rfl ?_
  refine xw_ald (show xm_Imp g Γ 1 (xi_ald 0 2) from xs_aload_n hΓ dX6_end_1) rfl ?_
  obtain ⟨v1, e1, e⟩ := e
  refine xw_gi1 (o := (some p0)) (show xm_Imp g Γ 2 (xi_get 5 3 5) from xs_get hG hΓ (ci := 5) (kf := 3) rfl (Nat.le_of_ble_eq_true rfl) q726 dX6_end_2) rfl e1 ?_
  refine xw_psh (v := (.int (6))) (show xm_Imp g Γ 5 (xi_psh (.int (6)) 7) from xs_bipush hΓ dX6_end_5 (by decide)) ?_
  refine xw_ic (show xm_Imp g Γ 7 (xi_ic (fun x y => x = y) 10 14) from xs_icmp_ne hΓ dX6_end_7 (by decide)) (fun c => ?_) (fun c => ?_)
  · rw [if_pos c] at e
    refine xw_psh (v := (.int (1))) (show xm_Imp g Γ 10 (xi_psh (.int (1)) 11) from xs_iconst hΓ dX6_end_10 (by decide)) ?_
    refine xw_goto (show xm_Imp g Γ 11 (xi_goto 15) from xs_goto hΓ dX6_end_11 (by decide)) ?_
    exact hB_15 _ _ _ _ _ _ e
  · rw [if_neg c] at e
    refine xw_psh (v := (.int (0))) (show xm_Imp g Γ 14 (xi_psh (.int (0)) 15) from xs_iconst hΓ dX6_end_14 (by decide)) ?_
    exact hB_15 _ _ _ _ _ _ e
noncomputable def D_J8_signedHashCode_8 (g : xm_G) (l1 : Option Nat) (l4 : Int32) (h : xm_H) (s : Int32 × Int32) : Option ((Int32 × Int32) ⊕ (Int32)) :=
 (if l4 ≤ s.2 then
 xl_o (some s.1) else
 xo_b l1 (fun a1 =>
 xo_b (xh_ai .byte h a1 s.2) (fun v2 =>
 some (Sum.inl (((31 * s.1) + (v2 &&& 255)), (s.2 + 1))))))
noncomputable def L_J8_signedHashCode_8 (g : xm_G) (l1 : Option Nat) (l4 : Int32) (h : xm_H) (s : Int32 × Int32) : Option (Int32) := xl_loop (D_J8_signedHashCode_8 g l1 l4 h) s
noncomputable def F_J8_signedHashCode (g : xm_G) (p0 : Int32) (p1 : Option Nat) (p2 : Int32) (p3 : Int32) (h : xm_H) : Option (Int32) :=
 L_J8_signedHashCode_8 g p1 (p2 + p3) h (p0, p2)
set_option maxHeartbeats 4000000 in
theorem K_J8_signedHashCode {g : xm_G} (hG : xm_Gw g) (p0 : Int32) (p1 : Option Nat) (p2 : Int32) (p3 : Int32) (h : xm_H) {o : Int32} (e : F_J8_signedHashCode g p0 p1 p2 p3 h = some o) {Q : xm_P} {X : xm_X} (hQ : Q (some (.int o)) h) : xm_Run g M_J8_signedHashCode 1 [.int p0, va_rf p1, .int p2, .int p3] h 0 0 Q X := by
  refine xm_Run.of2 (ls := [some (.int p0), some (va_rf p1), some (.int p2), some (.int p3), none, none]) pn_jdk_internal_util_ArraysSupport (by cases p1 <;> exact Nat.le_of_ble_eq_true rfl) (by cases p1 <;> rfl) (fun Γ hΓ => ?_)
  obtain ⟨P0, hP0, hp⟩ : ∃ P : Int32 → Prop, (∀ o, P o → Q (some (.int o)) h) ∧ P o := ⟨fun o => Q (some (.int o)) h, fun _ h => h, hQ⟩
  clear hQ
  show xm_W g Γ 0 [some (.int p0), some (va_rf p1), some (.int p2), some (.int p3), none, none] [] h 0 0
  have hL_8 : ∀ (l1 : Option Nat) (l4 : Int32) (s : Int32 × Int32) (o : Int32), L_J8_signedHashCode_8 g l1 l4 h s = some o → P0 o → xm_W g Γ 8 [some (.int s.1), some (va_rf l1), none, none, some (.int l4), some (.int s.2)] [] h 0 0 := by
    intro l1 l4
    refine xl_rule (WS := fun s : Int32 × Int32 => xm_W g Γ 8 [some (.int s.1), some (va_rf l1), none, none, some (.int l4), some (.int s.2)] [] h 0 0) ?_
    intro s o e hp
    obtain ⟨P1, hP1, hp⟩ : ∃ P : (Int32 × Int32) ⊕ (Int32) → Prop, (∀ o, P o → xl_P (fun s : Int32 × Int32 => xm_W g Γ 8 [some (.int s.1), some (va_rf l1), none, none, some (.int l4), some (.int s.2)] [] h 0 0) P0 o) ∧ P o := ⟨_, fun _ h => h, hp⟩
    unfold D_J8_signedHashCode_8 at e
    refine xw_ild (show xm_Imp g Γ 8 (xi_ild 5 10) from xs_iload hΓ dJ8_signedHashCode_8) rfl ?_
    refine xw_ild (show xm_Imp g Γ 10 (xi_ild 4 12) from xs_iload hΓ dJ8_signedHashCode_10) rfl ?_
    refine xw_ic (show xm_Imp g Γ 12 (xi_ic (fun x y => y ≤ x) 35 15) from xs_icmp_ge hΓ dJ8_signedHashCode_12 (by decide)) (fun c => ?_) (fun c => ?_)
    · rw [if_pos c] at e
      obtain ⟨_, e, hp⟩ := xl_o_s e (hP1 _ hp)
      refine xw_ild (show xm_Imp g Γ 35 (xi_ild 0 36) from xs_iload_n hΓ dJ8_signedHashCode_35) rfl ?_
      have hq := hP0 _ (xl_fin e hp)
      exact xw_iret (show xm_Imp g Γ 36 (xi_iret .int _) from xs_ireturn hΓ rfl dJ8_signedHashCode_36) (xn_int _) hq
    · rw [if_neg c] at e
      refine xw_psh (v := (.int (31))) (show xm_Imp g Γ 15 (xi_psh (.int (31)) 17) from xs_bipush hΓ dJ8_signedHashCode_15 (by decide)) ?_
      refine xw_ild (show xm_Imp g Γ 17 (xi_ild 0 18) from xs_iload_n hΓ dJ8_signedHashCode_17) rfl ?_
      refine xw_ii (show xm_Imp g Γ 18 (xi_ii (fun x y => x * y) 19) from xs_imul hΓ dJ8_signedHashCode_18) ?_
      refine xw_aldo (x := l1) (show xm_Imp g Γ 19 (xi_ald 1 20) from xs_aload_n hΓ dJ8_signedHashCode_19) rfl ?_
      refine xw_ild (show xm_Imp g Γ 20 (xi_ild 5 22) from xs_iload hΓ dJ8_signedHashCode_20) rfl ?_
      obtain ⟨a1, ha1, e⟩ := xo_b_s e
      obtain ⟨v2, e1, e⟩ := xo_b_s e
      refine xw_hbal (o := l1) (show xm_Imp g Γ 22 (xi_bal 23) from xs_bal hG hΓ dJ8_signedHashCode_22) ha1 e1 ?_
      refine xw_psh (v := (.int (255))) (show xm_Imp g Γ 23 (xi_psh (.int (255)) 26) from xs_sipush hΓ dJ8_signedHashCode_23 (by decide)) ?_
      refine xw_ii (show xm_Imp g Γ 26 (xi_ii (fun x y => x &&& y) 27) from xs_iand hΓ dJ8_signedHashCode_26) ?_
      refine xw_ii (show xm_Imp g Γ 27 (xi_ii (fun x y => x + y) 28) from xs_iadd hΓ dJ8_signedHashCode_27) ?_
      refine xw_ist (ls' := [some (.int ((31 * s.1) + (v2 &&& 255))), some (va_rf l1), none, none, some (.int l4), some (.int s.2)]) (show xm_Imp g Γ 28 (xi_ist 0 29) from xs_istore_n hΓ dJ8_signedHashCode_28 (Nat.le_of_ble_eq_true rfl)) rfl ?_
      refine xw_inc (v := (1)) (ls' := [some (.int ((31 * s.1) + (v2 &&& 255))), some (va_rf l1), none, none, some (.int l4), some (.int (s.2 + 1))]) (show xm_Imp g Γ 29 (xi_inc 5 (1) 32) from xs_iinc hΓ dJ8_signedHashCode_29 (by decide) (Nat.le_of_ble_eq_true rfl)) rfl rfl ?_
      refine xw_goto (show xm_Imp g Γ 32 (xi_goto 8) from xs_goto hΓ dJ8_signedHashCode_32 (by decide)) ?_
      have hq := xl_P_inl (hP1 _ (xl_fin e hp)); exact hq
  unfold F_J8_signedHashCode at e
  refine xw_ild (show xm_Imp g Γ 0 (xi_ild 2 1) from xs_iload_n hΓ dJ8_signedHashCode_0) rfl ?_
  refine xw_ild (show xm_Imp g Γ 1 (xi_ild 3 2) from xs_iload_n hΓ dJ8_signedHashCode_1) rfl ?_
  refine xw_ii (show xm_Imp g Γ 2 (xi_ii (fun x y => x + y) 3) from xs_iadd hΓ dJ8_signedHashCode_2) ?_
  refine xw_ist (ls' := [some (.int p0), some (va_rf p1), some (.int p2), some (.int p3), some (.int (p2 + p3)), none]) (show xm_Imp g Γ 3 (xi_ist 4 5) from xs_istore hΓ dJ8_signedHashCode_3 (Nat.le_of_ble_eq_true rfl)) rfl ?_
  refine xw_ild (show xm_Imp g Γ 5 (xi_ild 2 6) from xs_iload_n hΓ dJ8_signedHashCode_5) rfl ?_
  refine xw_ist (ls' := [some (.int p0), some (va_rf p1), some (.int p2), some (.int p3), some (.int (p2 + p3)), some (.int p2)]) (show xm_Imp g Γ 6 (xi_ist 5 8) from xs_istore hΓ dJ8_signedHashCode_6 (Nat.le_of_ble_eq_true rfl)) rfl ?_
  exact xm_lx (hL_8 _ _ _ _ e hp) (And.intro rfl (And.intro rfl (And.intro rfl (And.intro rfl (trivial)))))
noncomputable def F_J8_vectorizedHashCode (g : xm_G) (p0 : Option Nat) (p1 : Int32) (p2 : Int32) (p3 : Int32) (p4 : Int32) (h : xm_H) : Option (Int32) :=
 (if p4 = 4 then
 xo_b (xh_castA (.byte) h p0) (fun _ =>
 xo_b (F_J8_signedHashCode g p3 p0 p1 p2 h) (fun v1 =>
 some v1)) else
 (if p4 = 5 then
 xo_b (xh_inst "[B" h p0) (fun v2 =>
 (if v2 = 0 then
 xo_b (xh_castA (.char) h p0) (fun _ =>
 none) else
 xo_b (xh_castA (.byte) h p0) (fun _ =>
 none))) else
 (if p4 = 8 then
 xo_b (xh_castA (.byte) h p0) (fun _ =>
 none) else
 (if p4 = 9 then
 xo_b (xh_castA (.short) h p0) (fun _ =>
 none) else
 (if p4 = 10 then
 xo_b (xh_castA (.int) h p0) (fun _ =>
 none) else
 none)))))
set_option maxHeartbeats 4000000 in
theorem K_J8_vectorizedHashCode {g : xm_G} (hG : xm_Gw g) (p0 : Option Nat) (p1 : Int32) (p2 : Int32) (p3 : Int32) (p4 : Int32) (h : xm_H) {o : Int32} (e : F_J8_vectorizedHashCode g p0 p1 p2 p3 p4 h = some o) {Q : xm_P} {X : xm_X} (hQ : Q (some (.int o)) h) : xm_Run g M_J8_vectorizedHashCode 19 [va_rf p0, .int p1, .int p2, .int p3, .int p4] h 0 0 Q X := by
  refine xm_Run.of2 (ls := [some (va_rf p0), some (.int p1), some (.int p2), some (.int p3), some (.int p4)]) pn_jdk_internal_util_ArraysSupport (by cases p0 <;> exact Nat.le_of_ble_eq_true rfl) (by cases p0 <;> rfl) (fun Γ hΓ => ?_)
  obtain ⟨P0, hP0, hp⟩ : ∃ P : Int32 → Prop, (∀ o, P o → Q (some (.int o)) h) ∧ P o := ⟨fun o => Q (some (.int o)) h, fun _ h => h, hQ⟩
  clear hQ
  show xm_W g Γ 0 [some (va_rf p0), some (.int p1), some (.int p2), some (.int p3), some (.int p4)] [] h 0 0
  unfold F_J8_vectorizedHashCode at e
  refine xw_ild (show xm_Imp g Γ 0 (xi_ild 4 2) from xs_iload hΓ dJ8_vectorizedHashCode_0) rfl ?_
  by_cases c4 : p4 = 4
  · rw [if_pos c4] at e
    refine xw_tsi (show xm_Imp g Γ 2 (xi_tsw 4 10 [44, 57, 129, 129, 90, 103, 116] 129) from xs_tsw hΓ dJ8_vectorizedHashCode_2 (by decide) (by decide) (by decide)) (i := 0) rfl (by rw [c4]; decide) (by decide) ?_
    refine xw_ild (show xm_Imp g Γ 44 (xi_ild 3 45) from xs_iload_n hΓ dJ8_vectorizedHashCode_44) rfl ?_
    refine xw_aldo (x := p0) (show xm_Imp g Γ 45 (xi_ald 0 46) from xs_aload_n hΓ dJ8_vectorizedHashCode_45) rfl ?_
    obtain ⟨_, e1, e⟩ := xo_b_s e
    refine xw_castA (o := p0) (show xm_Imp g Γ 46 (xi_castA (.byte) 49) from xs_castB hG hΓ (ty := .byte) (by decide +kernel) q843 dJ8_vectorizedHashCode_46) e1 ?_
    refine xw_ild (show xm_Imp g Γ 49 (xi_ild 1 50) from xs_iload_n hΓ dJ8_vectorizedHashCode_49) rfl ?_
    refine xw_ild (show xm_Imp g Γ 50 (xi_ild 2 51) from xs_iload_n hΓ dJ8_vectorizedHashCode_50) rfl ?_
    obtain ⟨v1, e1, e⟩ := xo_b_s e
    refine xw_sv4 (show xm_Imp g Γ 51 (xi_inv g M_J8_signedHashCode 1 4 54) from xs_invS hG hΓ k_J8_signedHashCode rfl q844 q845 dJ8_vectorizedHashCode_51) rfl (fun Q X hQ => K_J8_signedHashCode hG p3 p0 p1 p2 _ e1 hQ) ?_
    refine xw_goto (show xm_Imp g Γ 54 (xi_goto 157) from xs_goto hΓ dJ8_vectorizedHashCode_54 (by decide)) ?_
    have hq := hP0 _ (xl_fin e hp)
    exact xw_iret (show xm_Imp g Γ 157 (xi_iret .int _) from xs_ireturn hΓ rfl dJ8_vectorizedHashCode_157) (xn_int _) hq
  rw [if_neg c4] at e
  by_cases c5 : p4 = 5
  · rw [if_pos c5] at e
    refine xw_tsi (show xm_Imp g Γ 2 (xi_tsw 4 10 [44, 57, 129, 129, 90, 103, 116] 129) from xs_tsw hΓ dJ8_vectorizedHashCode_2 (by decide) (by decide) (by decide)) (i := 1) rfl (by rw [c5]; decide) (by decide) ?_
    refine xw_aldo (x := p0) (show xm_Imp g Γ 57 (xi_ald 0 58) from xs_aload_n hΓ dJ8_vectorizedHashCode_57) rfl ?_
    obtain ⟨v2, e1, e⟩ := xo_b_s e
    refine xw_inst (o := p0) (show xm_Imp g Γ 58 (xi_inst "[B" 61) from xs_inst hG hΓ q843 dJ8_vectorizedHashCode_58) e1 ?_
    refine xw_if (show xm_Imp g Γ 61 (xi_if (fun x => x = 0) 77 64) from xs_if_eq hΓ dJ8_vectorizedHashCode_61 (by decide)) (fun c => ?_) (fun c => ?_)
    · rw [if_pos c] at e
      refine xw_ild (show xm_Imp g Γ 77 (xi_ild 3 78) from xs_iload_n hΓ dJ8_vectorizedHashCode_77) rfl ?_
      refine xw_aldo (x := p0) (show xm_Imp g Γ 78 (xi_ald 0 79) from xs_aload_n hΓ dJ8_vectorizedHashCode_78) rfl ?_
      obtain ⟨_, e1, e⟩ := xo_b_s e
      refine xw_castA (o := p0) (show xm_Imp g Γ 79 (xi_castA (.char) 82) from xs_castB hG hΓ (ty := .char) (by decide +kernel) q863 dJ8_vectorizedHashCode_79) e1 ?_
      refine xw_ild (show xm_Imp g Γ 82 (xi_ild 1 83) from xs_iload_n hΓ dJ8_vectorizedHashCode_82) rfl ?_
      refine xw_ild (show xm_Imp g Γ 83 (xi_ild 2 84) from xs_iload_n hΓ dJ8_vectorizedHashCode_83) rfl ?_
      cases e
    · rw [if_neg c] at e
      refine xw_ild (show xm_Imp g Γ 64 (xi_ild 3 65) from xs_iload_n hΓ dJ8_vectorizedHashCode_64) rfl ?_
      refine xw_aldo (x := p0) (show xm_Imp g Γ 65 (xi_ald 0 66) from xs_aload_n hΓ dJ8_vectorizedHashCode_65) rfl ?_
      obtain ⟨_, e1, e⟩ := xo_b_s e
      refine xw_castA (o := p0) (show xm_Imp g Γ 66 (xi_castA (.byte) 69) from xs_castB hG hΓ (ty := .byte) (by decide +kernel) q843 dJ8_vectorizedHashCode_66) e1 ?_
      refine xw_ild (show xm_Imp g Γ 69 (xi_ild 1 70) from xs_iload_n hΓ dJ8_vectorizedHashCode_69) rfl ?_
      refine xw_ild (show xm_Imp g Γ 70 (xi_ild 2 71) from xs_iload_n hΓ dJ8_vectorizedHashCode_70) rfl ?_
      cases e
  rw [if_neg c5] at e
  by_cases c8 : p4 = 8
  · rw [if_pos c8] at e
    refine xw_tsi (show xm_Imp g Γ 2 (xi_tsw 4 10 [44, 57, 129, 129, 90, 103, 116] 129) from xs_tsw hΓ dJ8_vectorizedHashCode_2 (by decide) (by decide) (by decide)) (i := 4) rfl (by rw [c8]; decide) (by decide) ?_
    refine xw_ild (show xm_Imp g Γ 90 (xi_ild 3 91) from xs_iload_n hΓ dJ8_vectorizedHashCode_90) rfl ?_
    refine xw_aldo (x := p0) (show xm_Imp g Γ 91 (xi_ald 0 92) from xs_aload_n hΓ dJ8_vectorizedHashCode_91) rfl ?_
    obtain ⟨_, e1, e⟩ := xo_b_s e
    refine xw_castA (o := p0) (show xm_Imp g Γ 92 (xi_castA (.byte) 95) from xs_castB hG hΓ (ty := .byte) (by decide +kernel) q843 dJ8_vectorizedHashCode_92) e1 ?_
    refine xw_ild (show xm_Imp g Γ 95 (xi_ild 1 96) from xs_iload_n hΓ dJ8_vectorizedHashCode_95) rfl ?_
    refine xw_ild (show xm_Imp g Γ 96 (xi_ild 2 97) from xs_iload_n hΓ dJ8_vectorizedHashCode_96) rfl ?_
    cases e
  rw [if_neg c8] at e
  by_cases c9 : p4 = 9
  · rw [if_pos c9] at e
    refine xw_tsi (show xm_Imp g Γ 2 (xi_tsw 4 10 [44, 57, 129, 129, 90, 103, 116] 129) from xs_tsw hΓ dJ8_vectorizedHashCode_2 (by decide) (by decide) (by decide)) (i := 5) rfl (by rw [c9]; decide) (by decide) ?_
    refine xw_ild (show xm_Imp g Γ 103 (xi_ild 3 104) from xs_iload_n hΓ dJ8_vectorizedHashCode_103) rfl ?_
    refine xw_aldo (x := p0) (show xm_Imp g Γ 104 (xi_ald 0 105) from xs_aload_n hΓ dJ8_vectorizedHashCode_104) rfl ?_
    obtain ⟨_, e1, e⟩ := xo_b_s e
    refine xw_castA (o := p0) (show xm_Imp g Γ 105 (xi_castA (.short) 108) from xs_castB hG hΓ (ty := .short) (by decide +kernel) q870 dJ8_vectorizedHashCode_105) e1 ?_
    refine xw_ild (show xm_Imp g Γ 108 (xi_ild 1 109) from xs_iload_n hΓ dJ8_vectorizedHashCode_108) rfl ?_
    refine xw_ild (show xm_Imp g Γ 109 (xi_ild 2 110) from xs_iload_n hΓ dJ8_vectorizedHashCode_109) rfl ?_
    cases e
  rw [if_neg c9] at e
  by_cases c10 : p4 = 10
  · rw [if_pos c10] at e
    refine xw_tsi (show xm_Imp g Γ 2 (xi_tsw 4 10 [44, 57, 129, 129, 90, 103, 116] 129) from xs_tsw hΓ dJ8_vectorizedHashCode_2 (by decide) (by decide) (by decide)) (i := 6) rfl (by rw [c10]; decide) (by decide) ?_
    refine xw_ild (show xm_Imp g Γ 116 (xi_ild 3 117) from xs_iload_n hΓ dJ8_vectorizedHashCode_116) rfl ?_
    refine xw_aldo (x := p0) (show xm_Imp g Γ 117 (xi_ald 0 118) from xs_aload_n hΓ dJ8_vectorizedHashCode_117) rfl ?_
    obtain ⟨_, e1, e⟩ := xo_b_s e
    refine xw_castA (o := p0) (show xm_Imp g Γ 118 (xi_castA (.int) 121) from xs_castB hG hΓ (ty := .int) (by decide +kernel) q874 dJ8_vectorizedHashCode_118) e1 ?_
    refine xw_ild (show xm_Imp g Γ 121 (xi_ild 1 122) from xs_iload_n hΓ dJ8_vectorizedHashCode_121) rfl ?_
    refine xw_ild (show xm_Imp g Γ 122 (xi_ild 2 123) from xs_iload_n hΓ dJ8_vectorizedHashCode_122) rfl ?_
    cases e
  rw [if_neg c10] at e
  by_cases c6 : p4 = 6
  · refine xw_tsi (show xm_Imp g Γ 2 (xi_tsw 4 10 [44, 57, 129, 129, 90, 103, 116] 129) from xs_tsw hΓ dJ8_vectorizedHashCode_2 (by decide) (by decide) (by decide)) (i := 2) rfl (by rw [c6]; decide) (by decide) ?_
    cases e
  by_cases c7 : p4 = 7
  · refine xw_tsi (show xm_Imp g Γ 2 (xi_tsw 4 10 [44, 57, 129, 129, 90, 103, 116] 129) from xs_tsw hΓ dJ8_vectorizedHashCode_2 (by decide) (by decide) (by decide)) (i := 3) rfl (by rw [c7]; decide) (by decide) ?_
    cases e
  refine xw_tsd (show xm_Imp g Γ 2 (xi_tsw 4 10 [44, 57, 129, 129, 90, 103, 116] 129) from xs_tsw hΓ dJ8_vectorizedHashCode_2 (by decide) (by decide) (by decide)) (xm_tsd p4 [(4 : Int32), (5 : Int32), (6 : Int32), (7 : Int32), (8 : Int32), (9 : Int32), (10 : Int32)] (by decide) (And.intro c4 (And.intro c5 (And.intro c6 (And.intro c7 (And.intro c8 (And.intro c9 (And.intro c10 (trivial))))))))) (by decide) ?_
  cases e
noncomputable def F_J11_hashCode (g : xm_G) (p0 : Option Nat) (h : xm_H) : Option (Int32) :=
 xo_b p0 (fun a1 =>
 xo_b (xh_len h a1) (fun v2 =>
 (if v2 = 0 then
 some 0 else
 (if v2 = 1 then
 xo_b (xh_ai .byte h a1 0) (fun v3 =>
 some (v3 &&& 255)) else
 xo_b (xh_len h a1) (fun v4 =>
 xo_b (F_J8_vectorizedHashCode g p0 0 v4 0 4 h) (fun v5 =>
 some v5))))))
set_option maxHeartbeats 4000000 in
theorem K_J11_hashCode {g : xm_G} (hG : xm_Gw g) (p0 : Option Nat) (h : xm_H) {o : Int32} (e : F_J11_hashCode g p0 h = some o) {Q : xm_P} {X : xm_X} (hQ : Q (some (.int o)) h) : xm_Run g M_J11_hashCode 20 [va_rf p0] h 0 0 Q X := by
  refine xm_Run.of2 (ls := [some (va_rf p0)]) pn_java_lang_StringLatin1 (by cases p0 <;> exact Nat.le_of_ble_eq_true rfl) (by cases p0 <;> rfl) (fun Γ hΓ => ?_)
  obtain ⟨P0, hP0, hp⟩ : ∃ P : Int32 → Prop, (∀ o, P o → Q (some (.int o)) h) ∧ P o := ⟨fun o => Q (some (.int o)) h, fun _ h => h, hQ⟩
  clear hQ
  show xm_W g Γ 0 [some (va_rf p0)] [] h 0 0
  unfold F_J11_hashCode at e
  refine xw_aldo (x := p0) (show xm_Imp g Γ 0 (xi_ald 0 1) from xs_aload_n hΓ dJ11_hashCode_0) rfl ?_
  obtain ⟨a1, ha1, e⟩ := xo_b_s e
  obtain ⟨v2, e1, e⟩ := xo_b_s e
  refine xw_hlen (o := p0) (show xm_Imp g Γ 1 (xi_len 2) from xs_len hG hΓ dJ11_hashCode_1) ha1 e1 ?_
  by_cases c1 : v2 = 0
  · rw [if_pos c1] at e
    refine xw_lsw (show xm_Imp g Γ 2 (xi_lsw (xm_lsf 2 [(0, 26), (1, 30)] (40))) from xs_lsw hΓ dJ11_hashCode_2 (by decide) (xm_lsk (by decide) (by decide))) (t := 28) (by rw [c1]; decide) ?_
    refine xw_psh (v := (.int (0))) (show xm_Imp g Γ 28 (xi_psh (.int (0)) 29) from xs_iconst hΓ dJ11_hashCode_28 (by decide)) ?_
    refine xw_goto (show xm_Imp g Γ 29 (xi_goto 51) from xs_goto hΓ dJ11_hashCode_29 (by decide)) ?_
    have hq := hP0 _ (xl_fin e hp)
    exact xw_iret (show xm_Imp g Γ 51 (xi_iret .int _) from xs_ireturn hΓ rfl dJ11_hashCode_51) (xn_int _) hq
  rw [if_neg c1] at e
  by_cases c2 : v2 = 1
  · rw [if_pos c2] at e
    refine xw_lsw (show xm_Imp g Γ 2 (xi_lsw (xm_lsf 2 [(0, 26), (1, 30)] (40))) from xs_lsw hΓ dJ11_hashCode_2 (by decide) (xm_lsk (by decide) (by decide))) (t := 32) (by rw [c2]; decide) ?_
    refine xw_aldo (x := p0) (show xm_Imp g Γ 32 (xi_ald 0 33) from xs_aload_n hΓ dJ11_hashCode_32) rfl ?_
    refine xw_psh (v := (.int (0))) (show xm_Imp g Γ 33 (xi_psh (.int (0)) 34) from xs_iconst hΓ dJ11_hashCode_33 (by decide)) ?_
    obtain ⟨v3, e1, e⟩ := xo_b_s e
    refine xw_hbal (o := p0) (show xm_Imp g Γ 34 (xi_bal 35) from xs_bal hG hΓ dJ11_hashCode_34) ha1 e1 ?_
    refine xw_psh (v := (.int (255))) (show xm_Imp g Γ 35 (xi_psh (.int (255)) 38) from xs_sipush hΓ dJ11_hashCode_35 (by decide)) ?_
    refine xw_ii (show xm_Imp g Γ 38 (xi_ii (fun x y => x &&& y) 39) from xs_iand hΓ dJ11_hashCode_38) ?_
    refine xw_goto (show xm_Imp g Γ 39 (xi_goto 51) from xs_goto hΓ dJ11_hashCode_39 (by decide)) ?_
    have hq := hP0 _ (xl_fin e hp)
    exact xw_iret (show xm_Imp g Γ 51 (xi_iret .int _) from xs_ireturn hΓ rfl dJ11_hashCode_51) (xn_int _) hq
  rw [if_neg c2] at e
  refine xw_lsw (show xm_Imp g Γ 2 (xi_lsw (xm_lsf 2 [(0, 26), (1, 30)] (40))) from xs_lsw hΓ dJ11_hashCode_2 (by decide) (xm_lsk (by decide) (by decide))) (t := 42) (xm_lsd v2 (by decide) (by decide) (And.intro c1 (And.intro c2 (trivial)))) ?_
  refine xw_aldo (x := p0) (show xm_Imp g Γ 42 (xi_ald 0 43) from xs_aload_n hΓ dJ11_hashCode_42) rfl ?_
  refine xw_psh (v := (.int (0))) (show xm_Imp g Γ 43 (xi_psh (.int (0)) 44) from xs_iconst hΓ dJ11_hashCode_43 (by decide)) ?_
  refine xw_aldo (x := p0) (show xm_Imp g Γ 44 (xi_ald 0 45) from xs_aload_n hΓ dJ11_hashCode_44) rfl ?_
  obtain ⟨v4, e1, e⟩ := xo_b_s e
  refine xw_hlen (o := p0) (show xm_Imp g Γ 45 (xi_len 46) from xs_len hG hΓ dJ11_hashCode_45) ha1 e1 ?_
  refine xw_psh (v := (.int (0))) (show xm_Imp g Γ 46 (xi_psh (.int (0)) 47) from xs_iconst hΓ dJ11_hashCode_46 (by decide)) ?_
  refine xw_psh (v := (.int (4))) (show xm_Imp g Γ 47 (xi_psh (.int (4)) 48) from xs_iconst hΓ dJ11_hashCode_47 (by decide)) ?_
  obtain ⟨v5, e1, e⟩ := xo_b_s e
  refine xw_sv5 (show xm_Imp g Γ 48 (xi_inv g M_J8_vectorizedHashCode 19 5 51) from xs_invS hG hΓ k_J8_vectorizedHashCode rfl q840 q841 dJ11_hashCode_48) rfl (fun Q X hQ => K_J8_vectorizedHashCode hG p0 0 v4 0 4 _ e1 hQ) ?_
  have hq := hP0 _ (xl_fin e hp)
  exact xw_iret (show xm_Imp g Γ 51 (xi_iret .int _) from xs_ireturn hΓ rfl dJ11_hashCode_51) (xn_int _) hq
noncomputable def F_J6_hashCode (g : xm_G) (p0 : Nat) (h : xm_H) : Option (Int32 × xm_H) :=
 xo_b (xh_fi [(15, 2)] h p0) (fun v1 =>
 (if v1 = 0 then
 xo_b (xh_fi [(15, 3)] h p0) (fun v2 =>
 (if v2 = 0 then
 xo_b (xh_is 15 h p0) (fun _ =>
 xo_b (F_J6_isLatin1 g p0 h) (fun v3 =>
 (if v3 = 0 then
 xo_b (xh_fr [(15, 0)] h p0) (fun v4 =>
 none) else
 xo_b (xh_fr [(15, 0)] h p0) (fun v5 =>
 xo_b (F_J11_hashCode g v5 h) (fun v6 =>
 (if v6 = 0 then
 xo_b (xh_w [(15, 3)] h p0 (.int 1)) (fun h7 =>
 some (v6, h7)) else
 xo_b (xh_w [(15, 2)] h p0 (.int v6)) (fun h8 =>
 some (v6, h8)))))))) else
 some (v1, h))) else
 some (v1, h)))
set_option maxHeartbeats 4000000 in
theorem K_J6_hashCode {g : xm_G} (hG : xm_Gw g) (p0 : Nat) (h : xm_H) {o : Int32 × xm_H} (e : F_J6_hashCode g p0 h = some o) {Q : xm_P} {X : xm_X} (hQ : Q (some (.int o.1)) o.2) : xm_Run g M_J6_hashCode 21 [.ref p0] h 0 0 Q X := by
  refine xm_Run.of pn_java_lang_String (Nat.le_of_ble_eq_true rfl) (fun Γ hΓ => ?_)
  obtain ⟨P0, hP0, hp⟩ : ∃ P : Int32 × xm_H → Prop, (∀ o, P o → Q (some (.int o.1)) o.2) ∧ P o := ⟨fun o => Q (some (.int o.1)) o.2, fun _ h => h, hQ⟩
  clear hQ
  show xm_W g Γ 0 [some (.ref p0), none] [] h 0 0
  unfold F_J6_hashCode at e
  refine xw_ald (show xm_Imp g Γ 0 (xi_ald 0 1) from xs_aload_n hΓ dJ6_hashCode_0) rfl ?_
  obtain ⟨v1, e1, e⟩ := xo_b_s e
  refine xw_gi1 (o := (some p0)) (show xm_Imp g Γ 1 (xi_get 15 2 4) from xs_get hG hΓ (ci := 15) (kf := 2) rfl (Nat.le_of_ble_eq_true rfl) q711 dJ6_hashCode_1) rfl e1 ?_
  refine xw_ist (ls' := [some (.ref p0), some (.int v1)]) (show xm_Imp g Γ 4 (xi_ist 1 5) from xs_istore_n hΓ dJ6_hashCode_4 (Nat.le_of_ble_eq_true rfl)) rfl ?_
  refine xw_ild (show xm_Imp g Γ 5 (xi_ild 1 6) from xs_iload_n hΓ dJ6_hashCode_5) rfl ?_
  refine xw_if (show xm_Imp g Γ 6 (xi_if (fun x => x = 0) 9 58) from xs_if_ne hΓ dJ6_hashCode_6 (by decide)) (fun c => ?_) (fun c => ?_)
  · rw [if_pos c] at e
    refine xw_ald (show xm_Imp g Γ 9 (xi_ald 0 10) from xs_aload_n hΓ dJ6_hashCode_9) rfl ?_
    obtain ⟨v2, e1, e⟩ := xo_b_s e
    refine xw_gi1 (o := (some p0)) (show xm_Imp g Γ 10 (xi_get 15 3 13) from xs_get hG hΓ (ci := 15) (kf := 3) rfl (Nat.le_of_ble_eq_true rfl) q712 dJ6_hashCode_10) rfl e1 ?_
    refine xw_if (show xm_Imp g Γ 13 (xi_if (fun x => x = 0) 16 58) from xs_if_ne hΓ dJ6_hashCode_13 (by decide)) (fun c => ?_) (fun c => ?_)
    · rw [if_pos c] at e
      refine xw_ald (show xm_Imp g Γ 16 (xi_ald 0 17) from xs_aload_n hΓ dJ6_hashCode_16) rfl ?_
      obtain ⟨_, e0, e⟩ := xo_b_s e
      obtain ⟨v3, e1, e⟩ := xo_b_s e
      refine xw_hv0 (o := (some p0)) (show xm_Imp g Γ 17 (xi_vir g 15 M_J6_isLatin1 1 0 20) from xs_invV hG hΓ k_J6_isLatin1 rfl (ci := 15) rfl q833 q834 q835 dJ6_hashCode_17) rfl rfl e0 (fun Q X hQ => K_J6_isLatin1 hG p0 _ e1 hQ) ?_
      refine xw_if (show xm_Imp g Γ 20 (xi_if (fun x => x = 0) 33 23) from xs_if_eq hΓ dJ6_hashCode_20 (by decide)) (fun c => ?_) (fun c => ?_)
      · rw [if_pos c] at e
        refine xw_ald (show xm_Imp g Γ 33 (xi_ald 0 34) from xs_aload_n hΓ dJ6_hashCode_33) rfl ?_
        obtain ⟨v4, e1, e⟩ := xo_b_s e
        refine xw_gr1 (o := (some p0)) (show xm_Imp g Γ 34 (xi_get 15 0 37) from xs_get hG hΓ (ci := 15) (kf := 0) rfl (Nat.le_of_ble_eq_true rfl) q709 dJ6_hashCode_34) rfl e1 ?_
        cases e
      · rw [if_neg c] at e
        refine xw_ald (show xm_Imp g Γ 23 (xi_ald 0 24) from xs_aload_n hΓ dJ6_hashCode_23) rfl ?_
        obtain ⟨v5, e1, e⟩ := xo_b_s e
        refine xw_gr1 (o := (some p0)) (show xm_Imp g Γ 24 (xi_get 15 0 27) from xs_get hG hΓ (ci := 15) (kf := 0) rfl (Nat.le_of_ble_eq_true rfl) q709 dJ6_hashCode_24) rfl e1 ?_
        obtain ⟨v6, e1, e⟩ := xo_b_s e
        refine xw_sv1 (show xm_Imp g Γ 27 (xi_inv g M_J11_hashCode 20 1 30) from xs_invS hG hΓ k_J11_hashCode rfl q837 q838 dJ6_hashCode_27) rfl (fun Q X hQ => K_J11_hashCode hG v5 _ e1 hQ) ?_
        refine xw_goto (show xm_Imp g Γ 30 (xi_goto 40) from xs_goto hΓ dJ6_hashCode_30 (by decide)) ?_
        refine xw_ist (ls' := [some (.ref p0), some (.int v6)]) (show xm_Imp g Γ 40 (xi_ist 1 41) from xs_istore_n hΓ dJ6_hashCode_40 (Nat.le_of_ble_eq_true rfl)) rfl ?_
        refine xw_ild (show xm_Imp g Γ 41 (xi_ild 1 42) from xs_iload_n hΓ dJ6_hashCode_41) rfl ?_
        refine xw_if (show xm_Imp g Γ 42 (xi_if (fun x => x = 0) 45 53) from xs_if_ne hΓ dJ6_hashCode_42 (by decide)) (fun c => ?_) (fun c => ?_)
        · rw [if_pos c] at e
          refine xw_ald (show xm_Imp g Γ 45 (xi_ald 0 46) from xs_aload_n hΓ dJ6_hashCode_45) rfl ?_
          refine xw_psh (v := (.int (1))) (show xm_Imp g Γ 46 (xi_psh (.int (1)) 47) from xs_iconst hΓ dJ6_hashCode_46 (by decide)) ?_
          obtain ⟨h7, e1, e⟩ := xo_b_s e
          refine xw_pt1 (o := (some p0)) (show xm_Imp g Γ 47 (xi_put 15 3 (.boolean) 50) from xs_put hG hΓ (ci := 15) (kf := 3) rfl (Nat.le_of_ble_eq_true rfl) rfl (by decide +kernel) q712 dJ6_hashCode_47) rfl ⟨rfl, rfl⟩ e1 ?_
          refine xw_goto (show xm_Imp g Γ 50 (xi_goto 58) from xs_goto hΓ dJ6_hashCode_50 (by decide)) ?_
          refine xw_ild (show xm_Imp g Γ 58 (xi_ild 1 59) from xs_iload_n hΓ dJ6_hashCode_58) rfl ?_
          have hq := hP0 _ (xl_fin e hp)
          exact xw_iret (show xm_Imp g Γ 59 (xi_iret .int _) from xs_ireturn hΓ rfl dJ6_hashCode_59) (xn_int _) hq
        · rw [if_neg c] at e
          refine xw_ald (show xm_Imp g Γ 53 (xi_ald 0 54) from xs_aload_n hΓ dJ6_hashCode_53) rfl ?_
          refine xw_ild (show xm_Imp g Γ 54 (xi_ild 1 55) from xs_iload_n hΓ dJ6_hashCode_54) rfl ?_
          obtain ⟨h8, e1, e⟩ := xo_b_s e
          refine xw_pt1 (o := (some p0)) (show xm_Imp g Γ 55 (xi_put 15 2 (.int) 58) from xs_put hG hΓ (ci := 15) (kf := 2) rfl (Nat.le_of_ble_eq_true rfl) rfl (by decide +kernel) q711 dJ6_hashCode_55) rfl (xf_int _) e1 ?_
          refine xw_ild (show xm_Imp g Γ 58 (xi_ild 1 59) from xs_iload_n hΓ dJ6_hashCode_58) rfl ?_
          have hq := hP0 _ (xl_fin e hp)
          exact xw_iret (show xm_Imp g Γ 59 (xi_iret .int _) from xs_ireturn hΓ rfl dJ6_hashCode_59) (xn_int _) hq
    · rw [if_neg c] at e
      refine xw_ild (show xm_Imp g Γ 58 (xi_ild 1 59) from xs_iload_n hΓ dJ6_hashCode_58) rfl ?_
      have hq := hP0 _ (xl_fin e hp)
      exact xw_iret (show xm_Imp g Γ 59 (xi_iret .int _) from xs_ireturn hΓ rfl dJ6_hashCode_59) (xn_int _) hq
  · rw [if_neg c] at e
    refine xw_ild (show xm_Imp g Γ 58 (xi_ild 1 59) from xs_iload_n hΓ dJ6_hashCode_58) rfl ?_
    have hq := hP0 _ (xl_fin e hp)
    exact xw_iret (show xm_Imp g Γ 59 (xi_iret .int _) from xs_ireturn hΓ rfl dJ6_hashCode_59) (xn_int _) hq
noncomputable def B_X6_gateKind_218 (g : xm_G) (l2 : Int32) (h : xm_H) : Option (Int32 × xm_H) :=
 (if l2 = 0 then
 some (0, h) else
 (if l2 = 1 then
 some (1, h) else
 (if l2 = 2 then
 some (2, h) else
 (if l2 = 3 then
 some (3, h) else
 (if l2 = 4 then
 some (4, h) else
 (if l2 = 5 then
 some (5, h) else
 (if l2 = 6 then
 some (6, h) else
 (if l2 = 7 then
 some (7, h) else
 (if l2 = 8 then
 some (8, h) else
 some ((-1), h))))))))))
noncomputable def F_X6_gateKind (g : xm_G) (p0 : Nat) (h : xm_H) : Option (Int32 × xm_H) :=
 xo_b (xh_fr [(5, 9)] h p0) (fun v1 =>
 xo_b v1 (fun a2 =>
 xo_b (xh_is 15 h a2) (fun _ =>
 xo_b (F_J6_hashCode g a2 h) (fun v3 =>
 (if v3.1 = 104 then
 xo_b (xh_is 15 v3.2 a2) (fun _ =>
 xo_b (F_J6_equals g a2 (some (xm_sa g "StringTableau$Parser" 97)) v3.2) (fun v4 =>
 B_X6_gateKind_218 g (if v4 = 0 then (-1) else 0) v3.2)) else
 (if v3.1 = 115 then
 xo_b (xh_is 15 v3.2 a2) (fun _ =>
 xo_b (F_J6_equals g a2 (some (xm_sa g "StringTableau$Parser" 99)) v3.2) (fun v5 =>
 B_X6_gateKind_218 g (if v5 = 0 then (-1) else 1) v3.2)) else
 (if v3.1 = 120 then
 xo_b (xh_is 15 v3.2 a2) (fun _ =>
 xo_b (F_J6_equals g a2 (some (xm_sa g "StringTableau$Parser" 103)) v3.2) (fun v6 =>
 B_X6_gateKind_218 g (if v6 = 0 then (-1) else 3) v3.2)) else
 (if v3.1 = 121 then
 xo_b (xh_is 15 v3.2 a2) (fun _ =>
 xo_b (F_J6_equals g a2 (some (xm_sa g "StringTableau$Parser" 105)) v3.2) (fun v7 =>
 B_X6_gateKind_218 g (if v7 = 0 then (-1) else 4) v3.2)) else
 (if v3.1 = 122 then
 xo_b (xh_is 15 v3.2 a2) (fun _ =>
 xo_b (F_J6_equals g a2 (some (xm_sa g "StringTableau$Parser" 107)) v3.2) (fun v8 =>
 B_X6_gateKind_218 g (if v8 = 0 then (-1) else 5) v3.2)) else
 (if v3.1 = 3189 then
 xo_b (xh_is 15 v3.2 a2) (fun _ =>
 xo_b (F_J6_equals g a2 (some (xm_sa g "StringTableau$Parser" 109)) v3.2) (fun v9 =>
 B_X6_gateKind_218 g (if v9 = 0 then (-1) else 6) v3.2)) else
 (if v3.1 = 3191 then
 xo_b (xh_is 15 v3.2 a2) (fun _ =>
 xo_b (F_J6_equals g a2 (some (xm_sa g "StringTableau$Parser" 111)) v3.2) (fun v10 =>
 B_X6_gateKind_218 g (if v10 = 0 then (-1) else 7) v3.2)) else
 (if v3.1 = 113718 then
 xo_b (xh_is 15 v3.2 a2) (fun _ =>
 xo_b (F_J6_equals g a2 (some (xm_sa g "StringTableau$Parser" 101)) v3.2) (fun v11 =>
 B_X6_gateKind_218 g (if v11 = 0 then (-1) else 2) v3.2)) else
 (if v3.1 = 3543443 then
 xo_b (xh_is 15 v3.2 a2) (fun _ =>
 xo_b (F_J6_equals g a2 (some (xm_sa g "StringTableau$Parser" 113)) v3.2) (fun v12 =>
 B_X6_gateKind_218 g (if v12 = 0 then (-1) else 8) v3.2)) else
 B_X6_gateKind_218 g (-1) v3.2)))))))))))))
set_option maxHeartbeats 4000000 in
theorem K_X6_gateKind {g : xm_G} (hG : xm_Gw g) (p0 : Nat) (h : xm_H) {o : Int32 × xm_H} (e : F_X6_gateKind g p0 h = some o) {Q : xm_P} {X : xm_X} (hQ : Q (some (.int o.1)) o.2) : xm_Run g M_X6_gateKind 22 [.ref p0] h 0 0 Q X := by
  refine xm_Run.of pn_StringTableau_Parser (Nat.le_of_ble_eq_true rfl) (fun Γ hΓ => ?_)
  obtain ⟨P0, hP0, hp⟩ : ∃ P : Int32 × xm_H → Prop, (∀ o, P o → Q (some (.int o.1)) o.2) ∧ P o := ⟨fun o => Q (some (.int o.1)) o.2, fun _ h => h, hQ⟩
  clear hQ
  show xm_W g Γ 0 [some (.ref p0), none, none] [] h 0 0
  have hB_218 : ∀ (l2 : Int32) (h : xm_H) (o : Int32 × xm_H), B_X6_gateKind_218 g l2 h = some o → P0 o → xm_W g Γ 218 [none, none, some (.int l2)] [] h 0 0 := by
    intro l2 h o e hp
    unfold B_X6_gateKind_218 at e
    refine xw_ild (show xm_Imp g Γ 218 (xi_ild 2 219) from xs_iload_n hΓ dX6_gateKind_218) rfl ?_
    by_cases c0 : l2 = 0
    · rw [if_pos c0] at e
      refine xw_tsi (show xm_Imp g Γ 219 (xi_tsw 0 8 [268, 270, 272, 274, 276, 278, 280, 283, 286] 289) from xs_tsw hΓ dX6_gateKind_219 (by decide) (by decide) (by decide)) (i := 0) rfl (by rw [c0]; decide) (by decide) ?_
      refine xw_psh (v := (.int (0))) (show xm_Imp g Γ 268 (xi_psh (.int (0)) 269) from xs_iconst hΓ dX6_gateKind_268 (by decide)) ?_
      have hq := hP0 _ (xl_fin e hp)
      exact xw_iret (show xm_Imp g Γ 269 (xi_iret .int _) from xs_ireturn hΓ rfl dX6_gateKind_269) (xn_int _) hq
    rw [if_neg c0] at e
    by_cases c1 : l2 = 1
    · rw [if_pos c1] at e
      refine xw_tsi (show xm_Imp g Γ 219 (xi_tsw 0 8 [268, 270, 272, 274, 276, 278, 280, 283, 286] 289) from xs_tsw hΓ dX6_gateKind_219 (by decide) (by decide) (by decide)) (i := 1) rfl (by rw [c1]; decide) (by decide) ?_
      refine xw_psh (v := (.int (1))) (show xm_Imp g Γ 270 (xi_psh (.int (1)) 271) from xs_iconst hΓ dX6_gateKind_270 (by decide)) ?_
      have hq := hP0 _ (xl_fin e hp)
      exact xw_iret (show xm_Imp g Γ 271 (xi_iret .int _) from xs_ireturn hΓ rfl dX6_gateKind_271) (xn_int _) hq
    rw [if_neg c1] at e
    by_cases c2 : l2 = 2
    · rw [if_pos c2] at e
      refine xw_tsi (show xm_Imp g Γ 219 (xi_tsw 0 8 [268, 270, 272, 274, 276, 278, 280, 283, 286] 289) from xs_tsw hΓ dX6_gateKind_219 (by decide) (by decide) (by decide)) (i := 2) rfl (by rw [c2]; decide) (by decide) ?_
      refine xw_psh (v := (.int (2))) (show xm_Imp g Γ 272 (xi_psh (.int (2)) 273) from xs_iconst hΓ dX6_gateKind_272 (by decide)) ?_
      have hq := hP0 _ (xl_fin e hp)
      exact xw_iret (show xm_Imp g Γ 273 (xi_iret .int _) from xs_ireturn hΓ rfl dX6_gateKind_273) (xn_int _) hq
    rw [if_neg c2] at e
    by_cases c3 : l2 = 3
    · rw [if_pos c3] at e
      refine xw_tsi (show xm_Imp g Γ 219 (xi_tsw 0 8 [268, 270, 272, 274, 276, 278, 280, 283, 286] 289) from xs_tsw hΓ dX6_gateKind_219 (by decide) (by decide) (by decide)) (i := 3) rfl (by rw [c3]; decide) (by decide) ?_
      refine xw_psh (v := (.int (3))) (show xm_Imp g Γ 274 (xi_psh (.int (3)) 275) from xs_iconst hΓ dX6_gateKind_274 (by decide)) ?_
      have hq := hP0 _ (xl_fin e hp)
      exact xw_iret (show xm_Imp g Γ 275 (xi_iret .int _) from xs_ireturn hΓ rfl dX6_gateKind_275) (xn_int _) hq
    rw [if_neg c3] at e
    by_cases c4 : l2 = 4
    · rw [if_pos c4] at e
      refine xw_tsi (show xm_Imp g Γ 219 (xi_tsw 0 8 [268, 270, 272, 274, 276, 278, 280, 283, 286] 289) from xs_tsw hΓ dX6_gateKind_219 (by decide) (by decide) (by decide)) (i := 4) rfl (by rw [c4]; decide) (by decide) ?_
      refine xw_psh (v := (.int (4))) (show xm_Imp g Γ 276 (xi_psh (.int (4)) 277) from xs_iconst hΓ dX6_gateKind_276 (by decide)) ?_
      have hq := hP0 _ (xl_fin e hp)
      exact xw_iret (show xm_Imp g Γ 277 (xi_iret .int _) from xs_ireturn hΓ rfl dX6_gateKind_277) (xn_int _) hq
    rw [if_neg c4] at e
    by_cases c5 : l2 = 5
    · rw [if_pos c5] at e
      refine xw_tsi (show xm_Imp g Γ 219 (xi_tsw 0 8 [268, 270, 272, 274, 276, 278, 280, 283, 286] 289) from xs_tsw hΓ dX6_gateKind_219 (by decide) (by decide) (by decide)) (i := 5) rfl (by rw [c5]; decide) (by decide) ?_
      refine xw_psh (v := (.int (5))) (show xm_Imp g Γ 278 (xi_psh (.int (5)) 279) from xs_iconst hΓ dX6_gateKind_278 (by decide)) ?_
      have hq := hP0 _ (xl_fin e hp)
      exact xw_iret (show xm_Imp g Γ 279 (xi_iret .int _) from xs_ireturn hΓ rfl dX6_gateKind_279) (xn_int _) hq
    rw [if_neg c5] at e
    by_cases c6 : l2 = 6
    · rw [if_pos c6] at e
      refine xw_tsi (show xm_Imp g Γ 219 (xi_tsw 0 8 [268, 270, 272, 274, 276, 278, 280, 283, 286] 289) from xs_tsw hΓ dX6_gateKind_219 (by decide) (by decide) (by decide)) (i := 6) rfl (by rw [c6]; decide) (by decide) ?_
      refine xw_psh (v := (.int (6))) (show xm_Imp g Γ 280 (xi_psh (.int (6)) 282) from xs_bipush hΓ dX6_gateKind_280 (by decide)) ?_
      have hq := hP0 _ (xl_fin e hp)
      exact xw_iret (show xm_Imp g Γ 282 (xi_iret .int _) from xs_ireturn hΓ rfl dX6_gateKind_282) (xn_int _) hq
    rw [if_neg c6] at e
    by_cases c7 : l2 = 7
    · rw [if_pos c7] at e
      refine xw_tsi (show xm_Imp g Γ 219 (xi_tsw 0 8 [268, 270, 272, 274, 276, 278, 280, 283, 286] 289) from xs_tsw hΓ dX6_gateKind_219 (by decide) (by decide) (by decide)) (i := 7) rfl (by rw [c7]; decide) (by decide) ?_
      refine xw_psh (v := (.int (7))) (show xm_Imp g Γ 283 (xi_psh (.int (7)) 285) from xs_bipush hΓ dX6_gateKind_283 (by decide)) ?_
      have hq := hP0 _ (xl_fin e hp)
      exact xw_iret (show xm_Imp g Γ 285 (xi_iret .int _) from xs_ireturn hΓ rfl dX6_gateKind_285) (xn_int _) hq
    rw [if_neg c7] at e
    by_cases c8 : l2 = 8
    · rw [if_pos c8] at e
      refine xw_tsi (show xm_Imp g Γ 219 (xi_tsw 0 8 [268, 270, 272, 274, 276, 278, 280, 283, 286] 289) from xs_tsw hΓ dX6_gateKind_219 (by decide) (by decide) (by decide)) (i := 8) rfl (by rw [c8]; decide) (by decide) ?_
      refine xw_psh (v := (.int (8))) (show xm_Imp g Γ 286 (xi_psh (.int (8)) 288) from xs_bipush hΓ dX6_gateKind_286 (by decide)) ?_
      have hq := hP0 _ (xl_fin e hp)
      exact xw_iret (show xm_Imp g Γ 288 (xi_iret .int _) from xs_ireturn hΓ rfl dX6_gateKind_288) (xn_int _) hq
    rw [if_neg c8] at e
    refine xw_tsd (show xm_Imp g Γ 219 (xi_tsw 0 8 [268, 270, 272, 274, 276, 278, 280, 283, 286] 289) from xs_tsw hΓ dX6_gateKind_219 (by decide) (by decide) (by decide)) (xm_tsd l2 [(0 : Int32), (1 : Int32), (2 : Int32), (3 : Int32), (4 : Int32), (5 : Int32), (6 : Int32), (7 : Int32), (8 : Int32)] (by decide) (And.intro c0 (And.intro c1 (And.intro c2 (And.intro c3 (And.intro c4 (And.intro c5 (And.intro c6 (And.intro c7 (And.intro c8 (trivial))))))))))) (by decide) ?_
    refine xw_psh (v := (.int (-1))) (show xm_Imp g Γ 289 (xi_psh (.int (-1)) 290) from xs_iconst hΓ dX6_gateKind_289 (by decide)) ?_
    have hq := hP0 _ (xl_fin e hp)
    exact xw_iret (show xm_Imp g Γ 290 (xi_iret .int _) from xs_ireturn hΓ rfl dX6_gateKind_290) (xn_int _) hq
  unfold F_X6_gateKind at e
  refine xw_ald (show xm_Imp g Γ 0 (xi_ald 0 1) from xs_aload_n hΓ dX6_gateKind_0) rfl ?_
  obtain ⟨v1, e1, e⟩ := xo_b_s e
  refine xw_gr1 (o := (some p0)) (show xm_Imp g Γ 1 (xi_get 5 9 4) from xs_get hG hΓ (ci := 5) (kf := 9) rfl (Nat.le_of_ble_eq_true rfl) q732 dX6_gateKind_1) rfl e1 ?_
  refine xw_asto (x := v1) (ls' := [some (.ref p0), some (va_rf v1), none]) (show xm_Imp g Γ 4 (xi_ast 1 5) from xs_astore_n hΓ dX6_gateKind_4 (Nat.le_of_ble_eq_true rfl)) rfl ?_
  refine xw_psh (v := (.int (-1))) (show xm_Imp g Γ 5 (xi_psh (.int (-1)) 6) from xs_iconst hΓ dX6_gateKind_5 (by decide)) ?_
  refine xw_ist (ls' := [some (.ref p0), some (va_rf v1), some (.int (-1))]) (show xm_Imp g Γ 6 (xi_ist 2 7) from xs_istore_n hΓ dX6_gateKind_6 (Nat.le_of_ble_eq_true rfl)) ((xm_s1_o (o := v1) rfl).trans rfl) ?_
  refine xw_aldo (x := v1) (show xm_Imp g Γ 7 (xi_ald 1 8) from xs_aload_n hΓ dX6_gateKind_7) rfl ?_
  obtain ⟨a2, ha2, e⟩ := xo_b_s e
  obtain ⟨_, e0, e⟩ := xo_b_s e
  obtain ⟨v3, e1, e⟩ := xo_b_s e
  refine xw_hv0 (o := v1) (show xm_Imp g Γ 8 (xi_vir g 15 M_J6_hashCode 21 0 11) from xs_invV hG hΓ k_J6_hashCode rfl (ci := 15) rfl q829 q830 q831 dX6_gateKind_8) (by simp [xm_stk, xv_cat, xc_int, xc_long, xc_float, xc_double, xc_ref]) ha2 e0 (fun Q X hQ => K_J6_hashCode hG a2 _ e1 hQ) ?_
  by_cases c1 : v3.1 = 104
  · rw [if_pos c1] at e
    refine xw_lsw (show xm_Imp g Γ 11 (xi_lsw (xm_lsf 11 [(104, 81), (115, 95), (120, 123), (121, 137), (122, 151), (3189, 165), (3191, 180), (113718, 109), (3543443, 195)] (207))) from xs_lsw hΓ dX6_gateKind_11 (by decide) (xm_lsk (by decide) (by decide))) (t := 92) (by rw [c1]; decide) ?_
    refine xw_aldo (x := v1) (show xm_Imp g Γ 92 (xi_ald 1 93) from xs_aload_n hΓ dX6_gateKind_92) rfl ?_
    refine xw_psh (v := (.ref (xm_sa g "StringTableau$Parser" 97))) (show xm_Imp g Γ 93 (xi_psh (.ref (xm_sa g "StringTableau$Parser" 97)) 95) from xs_ldS hG hΓ q890 dX6_gateKind_93) ?_
    obtain ⟨_, e0, e⟩ := xo_b_s e
    obtain ⟨v4, e1, e⟩ := xo_b_s e
    refine xw_hv1 (o := v1) (show xm_Imp g Γ 95 (xi_vir g 15 M_J6_equals 2 1 98) from xs_invV hG hΓ k_J6_equals rfl (ci := 15) rfl q766 q767 q768 dX6_gateKind_95) (by simp [xm_stk, xv_cat, xc_int, xc_long, xc_float, xc_double, xc_ref]) ha2 e0 (fun Q X hQ => K_J6_equals hG a2 (some (xm_sa g "StringTableau$Parser" 97)) _ e1 hQ) ?_
    refine xw_if (show xm_Imp g Γ 98 (xi_if (fun x => x = 0) 218 101) from xs_if_eq hΓ dX6_gateKind_98 (by decide)) (fun c => ?_) (fun c => ?_)
    · rw [if_pos c] at e
      exact xm_lx (hB_218 _ _ _ e hp) (And.intro rfl (trivial))
    · rw [if_neg c] at e
      refine xw_psh (v := (.int (0))) (show xm_Imp g Γ 101 (xi_psh (.int (0)) 102) from xs_iconst hΓ dX6_gateKind_101 (by decide)) ?_
      refine xw_ist (ls' := [some (.ref p0), some (va_rf v1), some (.int 0)]) (show xm_Imp g Γ 102 (xi_ist 2 103) from xs_istore_n hΓ dX6_gateKind_102 (Nat.le_of_ble_eq_true rfl)) ((xm_s1_o (o := v1) rfl).trans rfl) ?_
      refine xw_goto (show xm_Imp g Γ 103 (xi_goto 218) from xs_goto hΓ dX6_gateKind_103 (by decide)) ?_
      exact xm_lx (hB_218 _ _ _ e hp) (And.intro rfl (trivial))
  rw [if_neg c1] at e
  by_cases c2 : v3.1 = 115
  · rw [if_pos c2] at e
    refine xw_lsw (show xm_Imp g Γ 11 (xi_lsw (xm_lsf 11 [(104, 81), (115, 95), (120, 123), (121, 137), (122, 151), (3189, 165), (3191, 180), (113718, 109), (3543443, 195)] (207))) from xs_lsw hΓ dX6_gateKind_11 (by decide) (xm_lsk (by decide) (by decide))) (t := 106) (by rw [c2]; decide) ?_
    refine xw_aldo (x := v1) (show xm_Imp g Γ 106 (xi_ald 1 107) from xs_aload_n hΓ dX6_gateKind_106) rfl ?_
    refine xw_psh (v := (.ref (xm_sa g "StringTableau$Parser" 99))) (show xm_Imp g Γ 107 (xi_psh (.ref (xm_sa g "StringTableau$Parser" 99)) 109) from xs_ldS hG hΓ q891 dX6_gateKind_107) ?_
    obtain ⟨_, e0, e⟩ := xo_b_s e
    obtain ⟨v5, e1, e⟩ := xo_b_s e
    refine xw_hv1 (o := v1) (show xm_Imp g Γ 109 (xi_vir g 15 M_J6_equals 2 1 112) from xs_invV hG hΓ k_J6_equals rfl (ci := 15) rfl q766 q767 q768 dX6_gateKind_109) (by simp [xm_stk, xv_cat, xc_int, xc_long, xc_float, xc_double, xc_ref]) ha2 e0 (fun Q X hQ => K_J6_equals hG a2 (some (xm_sa g "StringTableau$Parser" 99)) _ e1 hQ) ?_
    refine xw_if (show xm_Imp g Γ 112 (xi_if (fun x => x = 0) 218 115) from xs_if_eq hΓ dX6_gateKind_112 (by decide)) (fun c => ?_) (fun c => ?_)
    · rw [if_pos c] at e
      exact xm_lx (hB_218 _ _ _ e hp) (And.intro rfl (trivial))
    · rw [if_neg c] at e
      refine xw_psh (v := (.int (1))) (show xm_Imp g Γ 115 (xi_psh (.int (1)) 116) from xs_iconst hΓ dX6_gateKind_115 (by decide)) ?_
      refine xw_ist (ls' := [some (.ref p0), some (va_rf v1), some (.int 1)]) (show xm_Imp g Γ 116 (xi_ist 2 117) from xs_istore_n hΓ dX6_gateKind_116 (Nat.le_of_ble_eq_true rfl)) ((xm_s1_o (o := v1) rfl).trans rfl) ?_
      refine xw_goto (show xm_Imp g Γ 117 (xi_goto 218) from xs_goto hΓ dX6_gateKind_117 (by decide)) ?_
      exact xm_lx (hB_218 _ _ _ e hp) (And.intro rfl (trivial))
  rw [if_neg c2] at e
  by_cases c3 : v3.1 = 120
  · rw [if_pos c3] at e
    refine xw_lsw (show xm_Imp g Γ 11 (xi_lsw (xm_lsf 11 [(104, 81), (115, 95), (120, 123), (121, 137), (122, 151), (3189, 165), (3191, 180), (113718, 109), (3543443, 195)] (207))) from xs_lsw hΓ dX6_gateKind_11 (by decide) (xm_lsk (by decide) (by decide))) (t := 134) (by rw [c3]; decide) ?_
    refine xw_aldo (x := v1) (show xm_Imp g Γ 134 (xi_ald 1 135) from xs_aload_n hΓ dX6_gateKind_134) rfl ?_
    refine xw_psh (v := (.ref (xm_sa g "StringTableau$Parser" 103))) (show xm_Imp g Γ 135 (xi_psh (.ref (xm_sa g "StringTableau$Parser" 103)) 137) from xs_ldS hG hΓ q893 dX6_gateKind_135) ?_
    obtain ⟨_, e0, e⟩ := xo_b_s e
    obtain ⟨v6, e1, e⟩ := xo_b_s e
    refine xw_hv1 (o := v1) (show xm_Imp g Γ 137 (xi_vir g 15 M_J6_equals 2 1 140) from xs_invV hG hΓ k_J6_equals rfl (ci := 15) rfl q766 q767 q768 dX6_gateKind_137) (by simp [xm_stk, xv_cat, xc_int, xc_long, xc_float, xc_double, xc_ref]) ha2 e0 (fun Q X hQ => K_J6_equals hG a2 (some (xm_sa g "StringTableau$Parser" 103)) _ e1 hQ) ?_
    refine xw_if (show xm_Imp g Γ 140 (xi_if (fun x => x = 0) 218 143) from xs_if_eq hΓ dX6_gateKind_140 (by decide)) (fun c => ?_) (fun c => ?_)
    · rw [if_pos c] at e
      exact xm_lx (hB_218 _ _ _ e hp) (And.intro rfl (trivial))
    · rw [if_neg c] at e
      refine xw_psh (v := (.int (3))) (show xm_Imp g Γ 143 (xi_psh (.int (3)) 144) from xs_iconst hΓ dX6_gateKind_143 (by decide)) ?_
      refine xw_ist (ls' := [some (.ref p0), some (va_rf v1), some (.int 3)]) (show xm_Imp g Γ 144 (xi_ist 2 145) from xs_istore_n hΓ dX6_gateKind_144 (Nat.le_of_ble_eq_true rfl)) ((xm_s1_o (o := v1) rfl).trans rfl) ?_
      refine xw_goto (show xm_Imp g Γ 145 (xi_goto 218) from xs_goto hΓ dX6_gateKind_145 (by decide)) ?_
      exact xm_lx (hB_218 _ _ _ e hp) (And.intro rfl (trivial))
  rw [if_neg c3] at e
  by_cases c4 : v3.1 = 121
  · rw [if_pos c4] at e
    refine xw_lsw (show xm_Imp g Γ 11 (xi_lsw (xm_lsf 11 [(104, 81), (115, 95), (120, 123), (121, 137), (122, 151), (3189, 165), (3191, 180), (113718, 109), (3543443, 195)] (207))) from xs_lsw hΓ dX6_gateKind_11 (by decide) (xm_lsk (by decide) (by decide))) (t := 148) (by rw [c4]; decide) ?_
    refine xw_aldo (x := v1) (show xm_Imp g Γ 148 (xi_ald 1 149) from xs_aload_n hΓ dX6_gateKind_148) rfl ?_
    refine xw_psh (v := (.ref (xm_sa g "StringTableau$Parser" 105))) (show xm_Imp g Γ 149 (xi_psh (.ref (xm_sa g "StringTableau$Parser" 105)) 151) from xs_ldS hG hΓ q894 dX6_gateKind_149) ?_
    obtain ⟨_, e0, e⟩ := xo_b_s e
    obtain ⟨v7, e1, e⟩ := xo_b_s e
    refine xw_hv1 (o := v1) (show xm_Imp g Γ 151 (xi_vir g 15 M_J6_equals 2 1 154) from xs_invV hG hΓ k_J6_equals rfl (ci := 15) rfl q766 q767 q768 dX6_gateKind_151) (by simp [xm_stk, xv_cat, xc_int, xc_long, xc_float, xc_double, xc_ref]) ha2 e0 (fun Q X hQ => K_J6_equals hG a2 (some (xm_sa g "StringTableau$Parser" 105)) _ e1 hQ) ?_
    refine xw_if (show xm_Imp g Γ 154 (xi_if (fun x => x = 0) 218 157) from xs_if_eq hΓ dX6_gateKind_154 (by decide)) (fun c => ?_) (fun c => ?_)
    · rw [if_pos c] at e
      exact xm_lx (hB_218 _ _ _ e hp) (And.intro rfl (trivial))
    · rw [if_neg c] at e
      refine xw_psh (v := (.int (4))) (show xm_Imp g Γ 157 (xi_psh (.int (4)) 158) from xs_iconst hΓ dX6_gateKind_157 (by decide)) ?_
      refine xw_ist (ls' := [some (.ref p0), some (va_rf v1), some (.int 4)]) (show xm_Imp g Γ 158 (xi_ist 2 159) from xs_istore_n hΓ dX6_gateKind_158 (Nat.le_of_ble_eq_true rfl)) ((xm_s1_o (o := v1) rfl).trans rfl) ?_
      refine xw_goto (show xm_Imp g Γ 159 (xi_goto 218) from xs_goto hΓ dX6_gateKind_159 (by decide)) ?_
      exact xm_lx (hB_218 _ _ _ e hp) (And.intro rfl (trivial))
  rw [if_neg c4] at e
  by_cases c5 : v3.1 = 122
  · rw [if_pos c5] at e
    refine xw_lsw (show xm_Imp g Γ 11 (xi_lsw (xm_lsf 11 [(104, 81), (115, 95), (120, 123), (121, 137), (122, 151), (3189, 165), (3191, 180), (113718, 109), (3543443, 195)] (207))) from xs_lsw hΓ dX6_gateKind_11 (by decide) (xm_lsk (by decide) (by decide))) (t := 162) (by rw [c5]; decide) ?_
    refine xw_aldo (x := v1) (show xm_Imp g Γ 162 (xi_ald 1 163) from xs_aload_n hΓ dX6_gateKind_162) rfl ?_
    refine xw_psh (v := (.ref (xm_sa g "StringTableau$Parser" 107))) (show xm_Imp g Γ 163 (xi_psh (.ref (xm_sa g "StringTableau$Parser" 107)) 165) from xs_ldS hG hΓ q895 dX6_gateKind_163) ?_
    obtain ⟨_, e0, e⟩ := xo_b_s e
    obtain ⟨v8, e1, e⟩ := xo_b_s e
    refine xw_hv1 (o := v1) (show xm_Imp g Γ 165 (xi_vir g 15 M_J6_equals 2 1 168) from xs_invV hG hΓ k_J6_equals rfl (ci := 15) rfl q766 q767 q768 dX6_gateKind_165) (by simp [xm_stk, xv_cat, xc_int, xc_long, xc_float, xc_double, xc_ref]) ha2 e0 (fun Q X hQ => K_J6_equals hG a2 (some (xm_sa g "StringTableau$Parser" 107)) _ e1 hQ) ?_
    refine xw_if (show xm_Imp g Γ 168 (xi_if (fun x => x = 0) 218 171) from xs_if_eq hΓ dX6_gateKind_168 (by decide)) (fun c => ?_) (fun c => ?_)
    · rw [if_pos c] at e
      exact xm_lx (hB_218 _ _ _ e hp) (And.intro rfl (trivial))
    · rw [if_neg c] at e
      refine xw_psh (v := (.int (5))) (show xm_Imp g Γ 171 (xi_psh (.int (5)) 172) from xs_iconst hΓ dX6_gateKind_171 (by decide)) ?_
      refine xw_ist (ls' := [some (.ref p0), some (va_rf v1), some (.int 5)]) (show xm_Imp g Γ 172 (xi_ist 2 173) from xs_istore_n hΓ dX6_gateKind_172 (Nat.le_of_ble_eq_true rfl)) ((xm_s1_o (o := v1) rfl).trans rfl) ?_
      refine xw_goto (show xm_Imp g Γ 173 (xi_goto 218) from xs_goto hΓ dX6_gateKind_173 (by decide)) ?_
      exact xm_lx (hB_218 _ _ _ e hp) (And.intro rfl (trivial))
  rw [if_neg c5] at e
  by_cases c6 : v3.1 = 3189
  · rw [if_pos c6] at e
    refine xw_lsw (show xm_Imp g Γ 11 (xi_lsw (xm_lsf 11 [(104, 81), (115, 95), (120, 123), (121, 137), (122, 151), (3189, 165), (3191, 180), (113718, 109), (3543443, 195)] (207))) from xs_lsw hΓ dX6_gateKind_11 (by decide) (xm_lsk (by decide) (by decide))) (t := 176) (by rw [c6]; decide) ?_
    refine xw_aldo (x := v1) (show xm_Imp g Γ 176 (xi_ald 1 177) from xs_aload_n hΓ dX6_gateKind_176) rfl ?_
    refine xw_psh (v := (.ref (xm_sa g "StringTableau$Parser" 109))) (show xm_Imp g Γ 177 (xi_psh (.ref (xm_sa g "StringTableau$Parser" 109)) 179) from xs_ldS hG hΓ q896 dX6_gateKind_177) ?_
    obtain ⟨_, e0, e⟩ := xo_b_s e
    obtain ⟨v9, e1, e⟩ := xo_b_s e
    refine xw_hv1 (o := v1) (show xm_Imp g Γ 179 (xi_vir g 15 M_J6_equals 2 1 182) from xs_invV hG hΓ k_J6_equals rfl (ci := 15) rfl q766 q767 q768 dX6_gateKind_179) (by simp [xm_stk, xv_cat, xc_int, xc_long, xc_float, xc_double, xc_ref]) ha2 e0 (fun Q X hQ => K_J6_equals hG a2 (some (xm_sa g "StringTableau$Parser" 109)) _ e1 hQ) ?_
    refine xw_if (show xm_Imp g Γ 182 (xi_if (fun x => x = 0) 218 185) from xs_if_eq hΓ dX6_gateKind_182 (by decide)) (fun c => ?_) (fun c => ?_)
    · rw [if_pos c] at e
      exact xm_lx (hB_218 _ _ _ e hp) (And.intro rfl (trivial))
    · rw [if_neg c] at e
      refine xw_psh (v := (.int (6))) (show xm_Imp g Γ 185 (xi_psh (.int (6)) 187) from xs_bipush hΓ dX6_gateKind_185 (by decide)) ?_
      refine xw_ist (ls' := [some (.ref p0), some (va_rf v1), some (.int 6)]) (show xm_Imp g Γ 187 (xi_ist 2 188) from xs_istore_n hΓ dX6_gateKind_187 (Nat.le_of_ble_eq_true rfl)) ((xm_s1_o (o := v1) rfl).trans rfl) ?_
      refine xw_goto (show xm_Imp g Γ 188 (xi_goto 218) from xs_goto hΓ dX6_gateKind_188 (by decide)) ?_
      exact xm_lx (hB_218 _ _ _ e hp) (And.intro rfl (trivial))
  rw [if_neg c6] at e
  by_cases c7 : v3.1 = 3191
  · rw [if_pos c7] at e
    refine xw_lsw (show xm_Imp g Γ 11 (xi_lsw (xm_lsf 11 [(104, 81), (115, 95), (120, 123), (121, 137), (122, 151), (3189, 165), (3191, 180), (113718, 109), (3543443, 195)] (207))) from xs_lsw hΓ dX6_gateKind_11 (by decide) (xm_lsk (by decide) (by decide))) (t := 191) (by rw [c7]; decide) ?_
    refine xw_aldo (x := v1) (show xm_Imp g Γ 191 (xi_ald 1 192) from xs_aload_n hΓ dX6_gateKind_191) rfl ?_
    refine xw_psh (v := (.ref (xm_sa g "StringTableau$Parser" 111))) (show xm_Imp g Γ 192 (xi_psh (.ref (xm_sa g "StringTableau$Parser" 111)) 194) from xs_ldS hG hΓ q897 dX6_gateKind_192) ?_
    obtain ⟨_, e0, e⟩ := xo_b_s e
    obtain ⟨v10, e1, e⟩ := xo_b_s e
    refine xw_hv1 (o := v1) (show xm_Imp g Γ 194 (xi_vir g 15 M_J6_equals 2 1 197) from xs_invV hG hΓ k_J6_equals rfl (ci := 15) rfl q766 q767 q768 dX6_gateKind_194) (by simp [xm_stk, xv_cat, xc_int, xc_long, xc_float, xc_double, xc_ref]) ha2 e0 (fun Q X hQ => K_J6_equals hG a2 (some (xm_sa g "StringTableau$Parser" 111)) _ e1 hQ) ?_
    refine xw_if (show xm_Imp g Γ 197 (xi_if (fun x => x = 0) 218 200) from xs_if_eq hΓ dX6_gateKind_197 (by decide)) (fun c => ?_) (fun c => ?_)
    · rw [if_pos c] at e
      exact xm_lx (hB_218 _ _ _ e hp) (And.intro rfl (trivial))
    · rw [if_neg c] at e
      refine xw_psh (v := (.int (7))) (show xm_Imp g Γ 200 (xi_psh (.int (7)) 202) from xs_bipush hΓ dX6_gateKind_200 (by decide)) ?_
      refine xw_ist (ls' := [some (.ref p0), some (va_rf v1), some (.int 7)]) (show xm_Imp g Γ 202 (xi_ist 2 203) from xs_istore_n hΓ dX6_gateKind_202 (Nat.le_of_ble_eq_true rfl)) ((xm_s1_o (o := v1) rfl).trans rfl) ?_
      refine xw_goto (show xm_Imp g Γ 203 (xi_goto 218) from xs_goto hΓ dX6_gateKind_203 (by decide)) ?_
      exact xm_lx (hB_218 _ _ _ e hp) (And.intro rfl (trivial))
  rw [if_neg c7] at e
  by_cases c8 : v3.1 = 113718
  · rw [if_pos c8] at e
    refine xw_lsw (show xm_Imp g Γ 11 (xi_lsw (xm_lsf 11 [(104, 81), (115, 95), (120, 123), (121, 137), (122, 151), (3189, 165), (3191, 180), (113718, 109), (3543443, 195)] (207))) from xs_lsw hΓ dX6_gateKind_11 (by decide) (xm_lsk (by decide) (by decide))) (t := 120) (by rw [c8]; decide) ?_
    refine xw_aldo (x := v1) (show xm_Imp g Γ 120 (xi_ald 1 121) from xs_aload_n hΓ dX6_gateKind_120) rfl ?_
    refine xw_psh (v := (.ref (xm_sa g "StringTableau$Parser" 101))) (show xm_Imp g Γ 121 (xi_psh (.ref (xm_sa g "StringTableau$Parser" 101)) 123) from xs_ldS hG hΓ q892 dX6_gateKind_121) ?_
    obtain ⟨_, e0, e⟩ := xo_b_s e
    obtain ⟨v11, e1, e⟩ := xo_b_s e
    refine xw_hv1 (o := v1) (show xm_Imp g Γ 123 (xi_vir g 15 M_J6_equals 2 1 126) from xs_invV hG hΓ k_J6_equals rfl (ci := 15) rfl q766 q767 q768 dX6_gateKind_123) (by simp [xm_stk, xv_cat, xc_int, xc_long, xc_float, xc_double, xc_ref]) ha2 e0 (fun Q X hQ => K_J6_equals hG a2 (some (xm_sa g "StringTableau$Parser" 101)) _ e1 hQ) ?_
    refine xw_if (show xm_Imp g Γ 126 (xi_if (fun x => x = 0) 218 129) from xs_if_eq hΓ dX6_gateKind_126 (by decide)) (fun c => ?_) (fun c => ?_)
    · rw [if_pos c] at e
      exact xm_lx (hB_218 _ _ _ e hp) (And.intro rfl (trivial))
    · rw [if_neg c] at e
      refine xw_psh (v := (.int (2))) (show xm_Imp g Γ 129 (xi_psh (.int (2)) 130) from xs_iconst hΓ dX6_gateKind_129 (by decide)) ?_
      refine xw_ist (ls' := [some (.ref p0), some (va_rf v1), some (.int 2)]) (show xm_Imp g Γ 130 (xi_ist 2 131) from xs_istore_n hΓ dX6_gateKind_130 (Nat.le_of_ble_eq_true rfl)) ((xm_s1_o (o := v1) rfl).trans rfl) ?_
      refine xw_goto (show xm_Imp g Γ 131 (xi_goto 218) from xs_goto hΓ dX6_gateKind_131 (by decide)) ?_
      exact xm_lx (hB_218 _ _ _ e hp) (And.intro rfl (trivial))
  rw [if_neg c8] at e
  by_cases c9 : v3.1 = 3543443
  · rw [if_pos c9] at e
    refine xw_lsw (show xm_Imp g Γ 11 (xi_lsw (xm_lsf 11 [(104, 81), (115, 95), (120, 123), (121, 137), (122, 151), (3189, 165), (3191, 180), (113718, 109), (3543443, 195)] (207))) from xs_lsw hΓ dX6_gateKind_11 (by decide) (xm_lsk (by decide) (by decide))) (t := 206) (by rw [c9]; decide) ?_
    refine xw_aldo (x := v1) (show xm_Imp g Γ 206 (xi_ald 1 207) from xs_aload_n hΓ dX6_gateKind_206) rfl ?_
    refine xw_psh (v := (.ref (xm_sa g "StringTableau$Parser" 113))) (show xm_Imp g Γ 207 (xi_psh (.ref (xm_sa g "StringTableau$Parser" 113)) 209) from xs_ldS hG hΓ q898 dX6_gateKind_207) ?_
    obtain ⟨_, e0, e⟩ := xo_b_s e
    obtain ⟨v12, e1, e⟩ := xo_b_s e
    refine xw_hv1 (o := v1) (show xm_Imp g Γ 209 (xi_vir g 15 M_J6_equals 2 1 212) from xs_invV hG hΓ k_J6_equals rfl (ci := 15) rfl q766 q767 q768 dX6_gateKind_209) (by simp [xm_stk, xv_cat, xc_int, xc_long, xc_float, xc_double, xc_ref]) ha2 e0 (fun Q X hQ => K_J6_equals hG a2 (some (xm_sa g "StringTableau$Parser" 113)) _ e1 hQ) ?_
    refine xw_if (show xm_Imp g Γ 212 (xi_if (fun x => x = 0) 218 215) from xs_if_eq hΓ dX6_gateKind_212 (by decide)) (fun c => ?_) (fun c => ?_)
    · rw [if_pos c] at e
      exact xm_lx (hB_218 _ _ _ e hp) (And.intro rfl (trivial))
    · rw [if_neg c] at e
      refine xw_psh (v := (.int (8))) (show xm_Imp g Γ 215 (xi_psh (.int (8)) 217) from xs_bipush hΓ dX6_gateKind_215 (by decide)) ?_
      refine xw_ist (ls' := [some (.ref p0), some (va_rf v1), some (.int 8)]) (show xm_Imp g Γ 217 (xi_ist 2 218) from xs_istore_n hΓ dX6_gateKind_217 (Nat.le_of_ble_eq_true rfl)) ((xm_s1_o (o := v1) rfl).trans rfl) ?_
      exact xm_lx (hB_218 _ _ _ e hp) (And.intro rfl (trivial))
  rw [if_neg c9] at e
  refine xw_lsw (show xm_Imp g Γ 11 (xi_lsw (xm_lsf 11 [(104, 81), (115, 95), (120, 123), (121, 137), (122, 151), (3189, 165), (3191, 180), (113718, 109), (3543443, 195)] (207))) from xs_lsw hΓ dX6_gateKind_11 (by decide) (xm_lsk (by decide) (by decide))) (t := 218) (xm_lsd v3.1 (by decide) (by decide) (And.intro c1 (And.intro c2 (And.intro c3 (And.intro c4 (And.intro c5 (And.intro c6 (And.intro c7 (And.intro c8 (And.intro c9 (trivial))))))))))) ?_
  exact xm_lx (hB_218 _ _ _ e hp) (And.intro rfl (trivial))
noncomputable def B_X6_isSign_16 (g : xm_G) (h : xm_H) : Option (Int32) :=
 some 1
noncomputable def F_X6_isSign (g : xm_G) (p0 : Nat) (h : xm_H) : Option (Int32) :=
 xo_b (xh_fi [(5, 3)] h p0) (fun v1 =>
 (if v1 = (4 : Int32) then
 B_X6_isSign_16 g h else
 xo_b (xh_fi [(5, 3)] h p0) (fun v2 =>
 (if v2 = (5 : Int32) then
 B_X6_isSign_16 g h else
 some 0))))
set_option maxHeartbeats 4000000 in
theorem K_X6_isSign {g : xm_G} (hG : xm_Gw g) (p0 : Nat) (h : xm_H) {o : Int32} (e : F_X6_isSign g p0 h = some o) {Q : xm_P} {X : xm_X} (hQ : Q (some (.int o)) h) : xm_Run g M_X6_isSign 1 [.ref p0] h 0 0 Q X := by
  refine xm_Run.of pn_StringTableau_Parser (Nat.le_of_ble_eq_true rfl) (fun Γ hΓ => ?_)
  obtain ⟨P0, hP0, hp⟩ : ∃ P : Int32 → Prop, (∀ o, P o → Q (some (.int o)) h) ∧ P o := ⟨fun o => Q (some (.int o)) h, fun _ h => h, hQ⟩
  clear hQ
  show xm_W g Γ 0 [some (.ref p0)] [] h 0 0
  have hB_16 : ∀  (o : Int32), B_X6_isSign_16 g h = some o → P0 o → xm_W g Γ 16 [none] [] h 0 0 := by
    intro  o e hp
    unfold B_X6_isSign_16 at e
    refine xw_psh (v := (.int (1))) (show xm_Imp g Γ 16 (xi_psh (.int (1)) 17) from xs_iconst hΓ dX6_isSign_16 (by decide)) ?_
    refine xw_goto (show xm_Imp g Γ 17 (xi_goto 21) from xs_goto hΓ dX6_isSign_17 (by decide)) ?_
    have hq := hP0 _ (xl_fin e hp)
    exact xw_iret (show xm_Imp g Γ 21 (xi_iret .boolean _) from xs_ireturn hΓ rfl dX6_isSign_21) rfl hq
  unfold F_X6_isSign at e
  refine xw_ald (show xm_Imp g Γ 0 (xi_ald 0 1) from xs_aload_n hΓ dX6_isSign_0) rfl ?_
  obtain ⟨v1, e1, e⟩ := xo_b_s e
  refine xw_gi1 (o := (some p0)) (show xm_Imp g Γ 1 (xi_get 5 3 4) from xs_get hG hΓ (ci := 5) (kf := 3) rfl (Nat.le_of_ble_eq_true rfl) q726 dX6_isSign_1) rfl e1 ?_
  refine xw_psh (v := (.int (4))) (show xm_Imp g Γ 4 (xi_psh (.int (4)) 5) from xs_iconst hΓ dX6_isSign_4 (by decide)) ?_
  refine xw_ic (show xm_Imp g Γ 5 (xi_ic (fun x y => x = y) 16 8) from xs_icmp_eq hΓ dX6_isSign_5 (by decide)) (fun c => ?_) (fun c => ?_)
  · rw [if_pos c] at e
    exact xm_lx (hB_16 _ e hp) (trivial)
  · rw [if_neg c] at e
    refine xw_ald (show xm_Imp g Γ 8 (xi_ald 0 9) from xs_aload_n hΓ dX6_isSign_8) rfl ?_
    obtain ⟨v2, e1, e⟩ := xo_b_s e
    refine xw_gi1 (o := (some p0)) (show xm_Imp g Γ 9 (xi_get 5 3 12) from xs_get hG hΓ (ci := 5) (kf := 3) rfl (Nat.le_of_ble_eq_true rfl) q726 dX6_isSign_9) rfl e1 ?_
    refine xw_psh (v := (.int (5))) (show xm_Imp g Γ 12 (xi_psh (.int (5)) 13) from xs_iconst hΓ dX6_isSign_12 (by decide)) ?_
    refine xw_ic (show xm_Imp g Γ 13 (xi_ic (fun x y => x = y) 16 20) from xs_icmp_ne hΓ dX6_isSign_13 (by decide)) (fun c => ?_) (fun c => ?_)
    · rw [if_pos c] at e
      exact xm_lx (hB_16 _ e hp) (trivial)
    · rw [if_neg c] at e
      refine xw_psh (v := (.int (0))) (show xm_Imp g Γ 20 (xi_psh (.int (0)) 21) from xs_iconst hΓ dX6_isSign_20 (by decide)) ?_
      have hq := hP0 _ (xl_fin e hp)
      exact xw_iret (show xm_Imp g Γ 21 (xi_iret .boolean _) from xs_ireturn hΓ rfl dX6_isSign_21) rfl hq
noncomputable def B_X6_sign_22 (g : xm_G) (l0 : Nat) (s0 : Int32) (h : xm_H) (bc : Nat) (bs : Nat) (Q : Int32 → xm_H → Prop) (X : xm_X) : Prop :=
 xt_b (xh_is 5 h l0) (fun _ =>
 xt_c bc bs (fun m7 m8 => F_X6_advance g l0 h m7 m8 (fun h9 =>
 Q s0 h9)))
noncomputable def F_X6_sign (g : xm_G) (p0 : Nat) (h : xm_H) (bc : Nat) (bs : Nat) (Q : Int32 → xm_H → Prop) (X : xm_X) : Prop :=
 xt_b (xh_is 5 h p0) (fun _ =>
 xt_b (F_X6_isSign g p0 h) (fun v1 =>
 xt_b (xh_is 5 h p0) (fun _ =>
 xt_c bc bs (fun m2 m3 => F_X6_require g p0 v1 1 h m2 m3 (fun h4 =>
 xt_b (xh_fi [(5, 3)] h4 p0) (fun v6 =>
 B_X6_sign_22 g p0 (if v6 = (4 : Int32) then 1 else (-1)) h4 (bc - m2) (bs - m3) Q X)) X))))
set_option maxHeartbeats 4000000 in
theorem K_X6_sign {g : xm_G} (hG : xm_Gw g) (p0 : Nat) (h : xm_H) (bc : Nat) (bs : Nat) {Q : Int32 → xm_H → Prop} {X : xm_X} (e : F_X6_sign g p0 h bc bs Q X) : xm_Run g M_X6_sign 21 [.ref p0] h bc bs (fun v h' => ∃ r, v = some (.int r) ∧ Q r h') X := by
  refine xm_Run.of pn_StringTableau_Parser (Nat.le_of_ble_eq_true rfl) (fun Γ hΓ => ?_)
  show xm_W g Γ 0 [some (.ref p0), none] [] h bc bs
  have hB_22 : ∀ (l0 : Nat) (s0 : Int32) (h : xm_H) (bc : Nat) (bs : Nat), B_X6_sign_22 g l0 s0 h bc bs Q X → xm_W g Γ 22 [some (.ref l0), none] [.int s0] h bc bs := by
    intro l0 s0 h bc bs e
    unfold B_X6_sign_22 at e
    refine xw_ist (ls' := [some (.ref l0), some (.int s0)]) (show xm_Imp g Γ 22 (xi_ist 1 23) from xs_istore_n hΓ dX6_sign_22 (Nat.le_of_ble_eq_true rfl)) rfl ?_
    refine xw_ald (show xm_Imp g Γ 23 (xi_ald 0 24) from xs_aload_n hΓ dX6_sign_23) rfl ?_
    obtain ⟨_, e0, e⟩ := e
    obtain ⟨m7, m8, ⟨em1, em2⟩, e⟩ := e
    refine xw_tvu0 (o := (some l0)) (show xm_Imp g Γ 24 (xi_vir g 5 M_X6_advance 20 0 27) from xs_invV hG hΓ k_X6_advance rfl (ci := 5) rfl q404 q406 qs1 dX6_sign_24) rfl rfl e0 em1 em2 (K_X6_advance hG l0 _ _ _ e) (fun h9 e => ?_)
    refine xw_ild (show xm_Imp g Γ 27 (xi_ild 1 28) from xs_iload_n hΓ dX6_sign_27) rfl ?_
    exact xw_iret (show xm_Imp g Γ 28 (xi_iret .int _) from xs_ireturn hΓ rfl dX6_sign_28) (xn_int _) ⟨_, rfl, e⟩
  unfold F_X6_sign at e
  refine xw_ald (show xm_Imp g Γ 0 (xi_ald 0 1) from xs_aload_n hΓ dX6_sign_0) rfl ?_
  refine xw_ald (show xm_Imp g Γ 1 (xi_ald 0 2) from xs_aload_n hΓ dX6_sign_1) rfl ?_
  obtain ⟨_, e0, e⟩ := e
  obtain ⟨v1, e1, e⟩ := e
  refine xw_hv0 (o := (some p0)) (show xm_Imp g Γ 2 (xi_vir g 5 M_X6_isSign 1 0 5) from xs_invV hG hΓ k_X6_isSign rfl (ci := 5) rfl q913 q915 qs13 dX6_sign_2) rfl rfl e0 (fun Q X hQ => K_X6_isSign hG p0 _ e1 hQ) ?_
  refine xw_psh (v := (.int (1))) (show xm_Imp g Γ 5 (xi_psh (.int (1)) 6) from xs_iconst hΓ dX6_sign_5 (by decide)) ?_
  obtain ⟨_, e0, e⟩ := e
  obtain ⟨m2, m3, ⟨em1, em2⟩, e⟩ := e
  refine xw_tXvu2 (o := (some p0)) (show xm_Imp g Γ 6 (xi_virX g 5 M_X6_require 8 2 9 X) from xs_invVX hG hΓ k_X6_require rfl rfl (ci := 5) rfl q774 q776 qs6 dX6_sign_6) rfl rfl e0 em1 em2 (K_X6_require hG p0 v1 1 _ _ _ e) (fun h4 e => ?_)
  refine xw_ald (show xm_Imp g Γ 9 (xi_ald 0 10) from xs_aload_n hΓ dX6_sign_9) rfl ?_
  obtain ⟨v6, e1, e⟩ := e
  refine xw_gi1 (o := (some p0)) (show xm_Imp g Γ 10 (xi_get 5 3 13) from xs_get hG hΓ (ci := 5) (kf := 3) rfl (Nat.le_of_ble_eq_true rfl) q726 dX6_sign_10) rfl e1 ?_
  refine xw_psh (v := (.int (4))) (show xm_Imp g Γ 13 (xi_psh (.int (4)) 14) from xs_iconst hΓ dX6_sign_13 (by decide)) ?_
  refine xw_ic (show xm_Imp g Γ 14 (xi_ic (fun x y => x = y) 17 21) from xs_icmp_ne hΓ dX6_sign_14 (by decide)) (fun c => ?_) (fun c => ?_)
  · rw [if_pos c] at e
    refine xw_psh (v := (.int (1))) (show xm_Imp g Γ 17 (xi_psh (.int (1)) 18) from xs_iconst hΓ dX6_sign_17 (by decide)) ?_
    refine xw_goto (show xm_Imp g Γ 18 (xi_goto 22) from xs_goto hΓ dX6_sign_18 (by decide)) ?_
    exact hB_22 _ _ _ _ _ e
  · rw [if_neg c] at e
    refine xw_psh (v := (.int (-1))) (show xm_Imp g Γ 21 (xi_psh (.int (-1)) 22) from xs_iconst hΓ dX6_sign_21 (by decide)) ?_
    exact hB_22 _ _ _ _ _ e
def B_J11_canEncode_2_15  : Int32 :=
 0
def F_J11_canEncode_2 (p0 : Int32) : Int32 :=
 (if p0 < 0 then
 B_J11_canEncode_2_15 else
 (if 255 < p0 then
 B_J11_canEncode_2_15 else
 1))
set_option maxHeartbeats 4000000 in
theorem K_J11_canEncode_2 {g : xm_G} (hG : xm_Gw g) {h : xm_H} (p0 : Int32) {o : Int32} (e : F_J11_canEncode_2 p0 = o) {Q : xm_P} {X : xm_X} (hQ : Q (some (.int o)) h) : xm_Run g M_J11_canEncode_2 1 [.int p0] h 0 0 Q X := by
  refine xm_Run.of pn_java_lang_StringLatin1 (Nat.le_of_ble_eq_true rfl) (fun Γ hΓ => ?_)
  obtain ⟨P0, hP0, hp⟩ : ∃ P : Int32 → Prop, (∀ o, P o → Q (some (.int o)) h) ∧ P o := ⟨fun o => Q (some (.int o)) h, fun _ h => h, hQ⟩
  clear hQ
  show xm_W g Γ 0 [some (.int p0)] [] h 0 0
  have hB_15 : ∀  (o : Int32), B_J11_canEncode_2_15  = o → P0 o → xm_W g Γ 15 [none] [] h 0 0 := by
    intro  o e hp
    unfold B_J11_canEncode_2_15 at e
    refine xw_psh (v := (.int (0))) (show xm_Imp g Γ 15 (xi_psh (.int (0)) 16) from xs_iconst hΓ dJ11_canEncode_2_15 (by decide)) ?_
    exact xw_iret (show xm_Imp g Γ 16 (xi_iret .boolean _) from xs_ireturn hΓ rfl dJ11_canEncode_2_16) rfl (hP0 _ (xl_finV e hp))
  unfold F_J11_canEncode_2 at e
  refine xw_ild (show xm_Imp g Γ 0 (xi_ild 0 1) from xs_iload_n hΓ dJ11_canEncode_2_0) rfl ?_
  refine xw_if (show xm_Imp g Γ 1 (xi_if (fun x => x < 0) 15 4) from xs_if_lt hΓ dJ11_canEncode_2_1 (by decide)) (fun c => ?_) (fun c => ?_)
  · rw [if_pos c] at e
    exact xm_lx (hB_15 _ e hp) (trivial)
  · rw [if_neg c] at e
    refine xw_ild (show xm_Imp g Γ 4 (xi_ild 0 5) from xs_iload_n hΓ dJ11_canEncode_2_4) rfl ?_
    refine xw_psh (v := (.int (255))) (show xm_Imp g Γ 5 (xi_psh (.int (255)) 8) from xs_sipush hΓ dJ11_canEncode_2_5 (by decide)) ?_
    refine xw_ic (show xm_Imp g Γ 8 (xi_ic (fun x y => y < x) 15 11) from xs_icmp_gt hΓ dJ11_canEncode_2_8 (by decide)) (fun c => ?_) (fun c => ?_)
    · rw [if_pos c] at e
      exact xm_lx (hB_15 _ e hp) (trivial)
    · rw [if_neg c] at e
      refine xw_psh (v := (.int (1))) (show xm_Imp g Γ 11 (xi_psh (.int (1)) 12) from xs_iconst hΓ dJ11_canEncode_2_11 (by decide)) ?_
      refine xw_goto (show xm_Imp g Γ 12 (xi_goto 16) from xs_goto hΓ dJ11_canEncode_2_12 (by decide)) ?_
      exact xw_iret (show xm_Imp g Γ 16 (xi_iret .boolean _) from xs_ireturn hΓ rfl dJ11_canEncode_2_16) rfl (hP0 _ (xl_finV e hp))
theorem b_J11_canEncode_2 (p0 : Int32) : narrow .boolean (.int (F_J11_canEncode_2 p0)) = .int (F_J11_canEncode_2 p0) := by
  unfold F_J11_canEncode_2 B_J11_canEncode_2_15
  (repeat' split) <;> first | with_reducible exact xb_n0 | with_reducible exact xb_n1
noncomputable def D_J11_indexOfChar_7 (g : xm_G) (l0 : Option Nat) (l3 : Int32) (l4 : Int32) (h : xm_H) (s : Int32) : Option ((Int32) ⊕ (Int32)) :=
 (if l3 ≤ s then
 xl_o (some (-1)) else
 xo_b l0 (fun a1 =>
 xo_b (xh_ai .byte h a1 s) (fun v2 =>
 (if v2 = l4 then
 xl_o (some s) else
 some (Sum.inl (s + 1))))))
noncomputable def L_J11_indexOfChar_7 (g : xm_G) (l0 : Option Nat) (l3 : Int32) (l4 : Int32) (h : xm_H) (s : Int32) : Option (Int32) := xl_loop (D_J11_indexOfChar_7 g l0 l3 l4 h) s
noncomputable def F_J11_indexOfChar (g : xm_G) (p0 : Option Nat) (p1 : Int32) (p2 : Int32) (p3 : Int32) (h : xm_H) : Option (Int32) :=
 L_J11_indexOfChar_7 g p0 p3 p1.toInt8.toInt32 h p2
set_option maxHeartbeats 4000000 in
theorem K_J11_indexOfChar {g : xm_G} (hG : xm_Gw g) (p0 : Option Nat) (p1 : Int32) (p2 : Int32) (p3 : Int32) (h : xm_H) {o : Int32} (e : F_J11_indexOfChar g p0 p1 p2 p3 h = some o) {Q : xm_P} {X : xm_X} (hQ : Q (some (.int o)) h) : xm_Run g M_J11_indexOfChar 1 [va_rf p0, .int p1, .int p2, .int p3] h 0 0 Q X := by
  refine xm_Run.of2 (ls := [some (va_rf p0), some (.int p1), some (.int p2), some (.int p3), none, none]) pn_java_lang_StringLatin1 (by cases p0 <;> exact Nat.le_of_ble_eq_true rfl) (by cases p0 <;> rfl) (fun Γ hΓ => ?_)
  obtain ⟨P0, hP0, hp⟩ : ∃ P : Int32 → Prop, (∀ o, P o → Q (some (.int o)) h) ∧ P o := ⟨fun o => Q (some (.int o)) h, fun _ h => h, hQ⟩
  clear hQ
  show xm_W g Γ 0 [some (va_rf p0), some (.int p1), some (.int p2), some (.int p3), none, none] [] h 0 0
  have hL_7 : ∀ (l0 : Option Nat) (l3 : Int32) (l4 : Int32) (s : Int32) (o : Int32), L_J11_indexOfChar_7 g l0 l3 l4 h s = some o → P0 o → xm_W g Γ 7 [some (va_rf l0), none, none, some (.int l3), some (.int l4), some (.int s)] [] h 0 0 := by
    intro l0 l3 l4
    refine xl_rule (WS := fun s : Int32 => xm_W g Γ 7 [some (va_rf l0), none, none, some (.int l3), some (.int l4), some (.int s)] [] h 0 0) ?_
    intro s o e hp
    obtain ⟨P1, hP1, hp⟩ : ∃ P : (Int32) ⊕ (Int32) → Prop, (∀ o, P o → xl_P (fun s : Int32 => xm_W g Γ 7 [some (va_rf l0), none, none, some (.int l3), some (.int l4), some (.int s)] [] h 0 0) P0 o) ∧ P o := ⟨_, fun _ h => h, hp⟩
    unfold D_J11_indexOfChar_7 at e
    refine xw_ild (show xm_Imp g Γ 7 (xi_ild 5 9) from xs_iload hΓ dJ11_indexOfChar_7) rfl ?_
    refine xw_ild (show xm_Imp g Γ 9 (xi_ild 3 10) from xs_iload_n hΓ dJ11_indexOfChar_9) rfl ?_
    refine xw_ic (show xm_Imp g Γ 10 (xi_ic (fun x y => y ≤ x) 31 13) from xs_icmp_ge hΓ dJ11_indexOfChar_10 (by decide)) (fun c => ?_) (fun c => ?_)
    · rw [if_pos c] at e
      obtain ⟨_, e, hp⟩ := xl_o_s e (hP1 _ hp)
      refine xw_psh (v := (.int (-1))) (show xm_Imp g Γ 31 (xi_psh (.int (-1)) 32) from xs_iconst hΓ dJ11_indexOfChar_31 (by decide)) ?_
      have hq := hP0 _ (xl_fin e hp)
      exact xw_iret (show xm_Imp g Γ 32 (xi_iret .int _) from xs_ireturn hΓ rfl dJ11_indexOfChar_32) (xn_int _) hq
    · rw [if_neg c] at e
      refine xw_aldo (x := l0) (show xm_Imp g Γ 13 (xi_ald 0 14) from xs_aload_n hΓ dJ11_indexOfChar_13) rfl ?_
      refine xw_ild (show xm_Imp g Γ 14 (xi_ild 5 16) from xs_iload hΓ dJ11_indexOfChar_14) rfl ?_
      obtain ⟨a1, ha1, e⟩ := xo_b_s e
      obtain ⟨v2, e1, e⟩ := xo_b_s e
      refine xw_hbal (o := l0) (show xm_Imp g Γ 16 (xi_bal 17) from xs_bal hG hΓ dJ11_indexOfChar_16) ha1 e1 ?_
      refine xw_ild (show xm_Imp g Γ 17 (xi_ild 4 19) from xs_iload hΓ dJ11_indexOfChar_17) rfl ?_
      refine xw_ic (show xm_Imp g Γ 19 (xi_ic (fun x y => x = y) 22 25) from xs_icmp_ne hΓ dJ11_indexOfChar_19 (by decide)) (fun c => ?_) (fun c => ?_)
      · rw [if_pos c] at e
        obtain ⟨_, e, hp⟩ := xl_o_s e (hP1 _ hp)
        refine xw_ild (show xm_Imp g Γ 22 (xi_ild 5 24) from xs_iload hΓ dJ11_indexOfChar_22) rfl ?_
        have hq := hP0 _ (xl_fin e hp)
        exact xw_iret (show xm_Imp g Γ 24 (xi_iret .int _) from xs_ireturn hΓ rfl dJ11_indexOfChar_24) (xn_int _) hq
      · rw [if_neg c] at e
        refine xw_inc (v := (1)) (ls' := [some (va_rf l0), none, none, some (.int l3), some (.int l4), some (.int (s + 1))]) (show xm_Imp g Γ 25 (xi_inc 5 (1) 28) from xs_iinc hΓ dJ11_indexOfChar_25 (by decide) (Nat.le_of_ble_eq_true rfl)) rfl rfl ?_
        refine xw_goto (show xm_Imp g Γ 28 (xi_goto 7) from xs_goto hΓ dJ11_indexOfChar_28 (by decide)) ?_
        have hq := xl_P_inl (hP1 _ (xl_fin e hp)); exact hq
  unfold F_J11_indexOfChar at e
  refine xw_ild (show xm_Imp g Γ 0 (xi_ild 1 1) from xs_iload_n hΓ dJ11_indexOfChar_0) rfl ?_
  refine xw_i1 (show xm_Imp g Γ 1 (xi_i1 (fun x => x.toInt8.toInt32) 2) from xs_i2b hΓ dJ11_indexOfChar_1) ?_
  refine xw_ist (ls' := [some (va_rf p0), some (.int p1), some (.int p2), some (.int p3), some (.int p1.toInt8.toInt32), none]) (show xm_Imp g Γ 2 (xi_ist 4 4) from xs_istore hΓ dJ11_indexOfChar_2 (Nat.le_of_ble_eq_true rfl)) rfl ?_
  refine xw_ild (show xm_Imp g Γ 4 (xi_ild 2 5) from xs_iload_n hΓ dJ11_indexOfChar_4) rfl ?_
  refine xw_ist (ls' := [some (va_rf p0), some (.int p1), some (.int p2), some (.int p3), some (.int p1.toInt8.toInt32), some (.int p2)]) (show xm_Imp g Γ 5 (xi_ist 5 7) from xs_istore hΓ dJ11_indexOfChar_5 (Nat.le_of_ble_eq_true rfl)) rfl ?_
  exact xm_lx (hL_7 _ _ _ _ _ e hp) (And.intro rfl (And.intro rfl (And.intro rfl (And.intro rfl (trivial)))))
noncomputable def F_J11_indexOf (g : xm_G) (p0 : Option Nat) (p1 : Int32) (p2 : Int32) (p3 : Int32) (h : xm_H) : Option (Int32) :=
 (if (F_J11_canEncode_2 p1) = 0 then
 some (-1) else
 xo_b p0 (fun a1 =>
 xo_b (xh_len h a1) (fun v2 =>
 (if (if p2 < 0 then 0 else p2) < (if v2 < p3 then v2 else p3) then
 xo_b (F_J11_indexOfChar g p0 p1 (if p2 < 0 then 0 else p2) (if v2 < p3 then v2 else p3) h) (fun v3 =>
 some v3) else
 some (-1)))))
set_option maxHeartbeats 4000000 in
theorem K_J11_indexOf {g : xm_G} (hG : xm_Gw g) (p0 : Option Nat) (p1 : Int32) (p2 : Int32) (p3 : Int32) (h : xm_H) {o : Int32} (e : F_J11_indexOf g p0 p1 p2 p3 h = some o) {Q : xm_P} {X : xm_X} (hQ : Q (some (.int o)) h) : xm_Run g M_J11_indexOf 2 [va_rf p0, .int p1, .int p2, .int p3] h 0 0 Q X := by
  refine xm_Run.of2 (ls := [some (va_rf p0), some (.int p1), some (.int p2), some (.int p3)]) pn_java_lang_StringLatin1 (by cases p0 <;> exact Nat.le_of_ble_eq_true rfl) (by cases p0 <;> rfl) (fun Γ hΓ => ?_)
  obtain ⟨P0, hP0, hp⟩ : ∃ P : Int32 → Prop, (∀ o, P o → Q (some (.int o)) h) ∧ P o := ⟨fun o => Q (some (.int o)) h, fun _ h => h, hQ⟩
  clear hQ
  show xm_W g Γ 0 [some (va_rf p0), some (.int p1), some (.int p2), some (.int p3)] [] h 0 0
  unfold F_J11_indexOf at e
  refine xw_ild (show xm_Imp g Γ 0 (xi_ild 1 1) from xs_iload_n hΓ dJ11_indexOf_0) rfl ?_
  refine xw_sv1 (show xm_Imp g Γ 1 (xi_inv g M_J11_canEncode_2 1 1 4) from xs_invS hG hΓ k_J11_canEncode_2 rfl q950 q951 dJ11_indexOf_1) rfl (fun Q X hQ => K_J11_canEncode_2 hG p1 rfl hQ) ?_
  refine xw_if (show xm_Imp g Γ 4 (xi_if (fun x => x = 0) 7 9) from xs_if_ne hΓ dJ11_indexOf_4 (by decide)) (fun c => ?_) (fun c => ?_)
  · rw [if_pos c] at e
    refine xw_psh (v := (.int (-1))) (show xm_Imp g Γ 7 (xi_psh (.int (-1)) 8) from xs_iconst hΓ dJ11_indexOf_7 (by decide)) ?_
    have hq := hP0 _ (xl_fin e hp)
    exact xw_iret (show xm_Imp g Γ 8 (xi_iret .int _) from xs_ireturn hΓ rfl dJ11_indexOf_8) (xn_int _) hq
  · rw [if_neg c] at e
    refine xw_ild (show xm_Imp g Γ 9 (xi_ild 2 10) from xs_iload_n hΓ dJ11_indexOf_9) rfl ?_
    refine xw_psh (v := (.int (0))) (show xm_Imp g Γ 10 (xi_psh (.int (0)) 11) from xs_iconst hΓ dJ11_indexOf_10 (by decide)) ?_
    refine xw_mm (show xm_Imp g Γ 11 (xi_mm (fun x y => if x < y then y else x) 14) from xs_mmax hG hΓ rfl q953 dJ11_indexOf_11) rfl ?_
    refine xw_ist (ls' := [some (va_rf p0), some (.int p1), some (.int (if p2 < 0 then 0 else p2)), some (.int p3)]) (show xm_Imp g Γ 14 (xi_ist 2 15) from xs_istore_n hΓ dJ11_indexOf_14 (Nat.le_of_ble_eq_true rfl)) rfl ?_
    refine xw_ild (show xm_Imp g Γ 15 (xi_ild 3 16) from xs_iload_n hΓ dJ11_indexOf_15) rfl ?_
    refine xw_aldo (x := p0) (show xm_Imp g Γ 16 (xi_ald 0 17) from xs_aload_n hΓ dJ11_indexOf_16) rfl ?_
    obtain ⟨a1, ha1, e⟩ := xo_b_s e
    obtain ⟨v2, e1, e⟩ := xo_b_s e
    refine xw_hlen (o := p0) (show xm_Imp g Γ 17 (xi_len 18) from xs_len hG hΓ dJ11_indexOf_17) ha1 e1 ?_
    refine xw_mm (show xm_Imp g Γ 18 (xi_mm (fun x y => if y < x then y else x) 21) from xs_mmin hG hΓ rfl q954 dJ11_indexOf_18) rfl ?_
    refine xw_ist (ls' := [some (va_rf p0), some (.int p1), some (.int (if p2 < 0 then 0 else p2)), some (.int (if v2 < p3 then v2 else p3))]) (show xm_Imp g Γ 21 (xi_ist 3 22) from xs_istore_n hΓ dJ11_indexOf_21 (Nat.le_of_ble_eq_true rfl)) rfl ?_
    refine xw_ild (show xm_Imp g Γ 22 (xi_ild 2 23) from xs_iload_n hΓ dJ11_indexOf_22) rfl ?_
    refine xw_ild (show xm_Imp g Γ 23 (xi_ild 3 24) from xs_iload_n hΓ dJ11_indexOf_23) rfl ?_
    refine xw_ic (show xm_Imp g Γ 24 (xi_ic (fun x y => x < y) 29 27) from xs_icmp_lt hΓ dJ11_indexOf_24 (by decide)) (fun c => ?_) (fun c => ?_)
    · rw [if_pos c] at e
      refine xw_aldo (x := p0) (show xm_Imp g Γ 29 (xi_ald 0 30) from xs_aload_n hΓ dJ11_indexOf_29) rfl ?_
      refine xw_ild (show xm_Imp g Γ 30 (xi_ild 1 31) from xs_iload_n hΓ dJ11_indexOf_30) rfl ?_
      refine xw_ild (show xm_Imp g Γ 31 (xi_ild 2 32) from xs_iload_n hΓ dJ11_indexOf_31) rfl ?_
      refine xw_ild (show xm_Imp g Γ 32 (xi_ild 3 33) from xs_iload_n hΓ dJ11_indexOf_32) rfl ?_
      obtain ⟨v3, e1, e⟩ := xo_b_s e
      refine xw_sv4 (show xm_Imp g Γ 33 (xi_inv g M_J11_indexOfChar 1 4 36) from xs_invS hG hΓ k_J11_indexOfChar rfl q955 q956 dJ11_indexOf_33) rfl (fun Q X hQ => K_J11_indexOfChar hG p0 p1 (if p2 < 0 then 0 else p2) (if v2 < p3 then v2 else p3) _ e1 hQ) ?_
      have hq := hP0 _ (xl_fin e hp)
      exact xw_iret (show xm_Imp g Γ 36 (xi_iret .int _) from xs_ireturn hΓ rfl dJ11_indexOf_36) (xn_int _) hq
    · rw [if_neg c] at e
      refine xw_psh (v := (.int (-1))) (show xm_Imp g Γ 27 (xi_psh (.int (-1)) 28) from xs_iconst hΓ dJ11_indexOf_27 (by decide)) ?_
      have hq := hP0 _ (xl_fin e hp)
      exact xw_iret (show xm_Imp g Γ 28 (xi_iret .int _) from xs_ireturn hΓ rfl dJ11_indexOf_28) (xn_int _) hq
noncomputable def F_J6_indexOf_2 (g : xm_G) (p0 : Nat) (p1 : Int32) (p2 : Int32) (h : xm_H) : Option (Int32) :=
 xo_b (xh_is 15 h p0) (fun _ =>
 xo_b (F_J6_isLatin1 g p0 h) (fun v1 =>
 (if v1 = 0 then
 xo_b (xh_fr [(15, 0)] h p0) (fun v2 =>
 xo_b (xh_is 15 h p0) (fun _ =>
 xo_b (F_J6_length g p0 h) (fun v3 =>
 none))) else
 xo_b (xh_fr [(15, 0)] h p0) (fun v4 =>
 xo_b (xh_is 15 h p0) (fun _ =>
 xo_b (F_J6_length g p0 h) (fun v5 =>
 xo_b (F_J11_indexOf g v4 p1 p2 v5 h) (fun v6 =>
 some v6)))))))
set_option maxHeartbeats 4000000 in
theorem K_J6_indexOf_2 {g : xm_G} (hG : xm_Gw g) (p0 : Nat) (p1 : Int32) (p2 : Int32) (h : xm_H) {o : Int32} (e : F_J6_indexOf_2 g p0 p1 p2 h = some o) {Q : xm_P} {X : xm_X} (hQ : Q (some (.int o)) h) : xm_Run g M_J6_indexOf_2 3 [.ref p0, .int p1, .int p2] h 0 0 Q X := by
  refine xm_Run.of pn_java_lang_String (Nat.le_of_ble_eq_true rfl) (fun Γ hΓ => ?_)
  obtain ⟨P0, hP0, hp⟩ : ∃ P : Int32 → Prop, (∀ o, P o → Q (some (.int o)) h) ∧ P o := ⟨fun o => Q (some (.int o)) h, fun _ h => h, hQ⟩
  clear hQ
  show xm_W g Γ 0 [some (.ref p0), some (.int p1), some (.int p2)] [] h 0 0
  unfold F_J6_indexOf_2 at e
  refine xw_ald (show xm_Imp g Γ 0 (xi_ald 0 1) from xs_aload_n hΓ dJ6_indexOf_2_0) rfl ?_
  obtain ⟨_, e0, e⟩ := xo_b_s e
  obtain ⟨v1, e1, e⟩ := xo_b_s e
  refine xw_hv0 (o := (some p0)) (show xm_Imp g Γ 1 (xi_vir g 15 M_J6_isLatin1 1 0 4) from xs_invV hG hΓ k_J6_isLatin1 rfl (ci := 15) rfl q833 q834 q835 dJ6_indexOf_2_1) rfl rfl e0 (fun Q X hQ => K_J6_isLatin1 hG p0 _ e1 hQ) ?_
  refine xw_if (show xm_Imp g Γ 4 (xi_if (fun x => x = 0) 23 7) from xs_if_eq hΓ dJ6_indexOf_2_4 (by decide)) (fun c => ?_) (fun c => ?_)
  · rw [if_pos c] at e
    refine xw_ald (show xm_Imp g Γ 23 (xi_ald 0 24) from xs_aload_n hΓ dJ6_indexOf_2_23) rfl ?_
    obtain ⟨v2, e1, e⟩ := xo_b_s e
    refine xw_gr1 (o := (some p0)) (show xm_Imp g Γ 24 (xi_get 15 0 27) from xs_get hG hΓ (ci := 15) (kf := 0) rfl (Nat.le_of_ble_eq_true rfl) q709 dJ6_indexOf_2_24) rfl e1 ?_
    refine xw_ild (show xm_Imp g Γ 27 (xi_ild 1 28) from xs_iload_n hΓ dJ6_indexOf_2_27) rfl ?_
    refine xw_ild (show xm_Imp g Γ 28 (xi_ild 2 29) from xs_iload_n hΓ dJ6_indexOf_2_28) rfl ?_
    refine xw_ald (show xm_Imp g Γ 29 (xi_ald 0 30) from xs_aload_n hΓ dJ6_indexOf_2_29) rfl ?_
    obtain ⟨_, e0, e⟩ := xo_b_s e
    obtain ⟨v3, e1, e⟩ := xo_b_s e
    refine xw_hv0 (o := (some p0)) (show xm_Imp g Γ 30 (xi_vir g 15 M_J6_length 2 0 33) from xs_invV hG hΓ k_J6_length rfl (ci := 15) rfl q946 q647 q648 dJ6_indexOf_2_30) (by simp [xm_stk, xv_cat, xc_int, xc_long, xc_float, xc_double, xc_ref]) rfl e0 (fun Q X hQ => K_J6_length hG p0 _ e1 hQ) ?_
    cases e
  · rw [if_neg c] at e
    refine xw_ald (show xm_Imp g Γ 7 (xi_ald 0 8) from xs_aload_n hΓ dJ6_indexOf_2_7) rfl ?_
    obtain ⟨v4, e1, e⟩ := xo_b_s e
    refine xw_gr1 (o := (some p0)) (show xm_Imp g Γ 8 (xi_get 15 0 11) from xs_get hG hΓ (ci := 15) (kf := 0) rfl (Nat.le_of_ble_eq_true rfl) q709 dJ6_indexOf_2_8) rfl e1 ?_
    refine xw_ild (show xm_Imp g Γ 11 (xi_ild 1 12) from xs_iload_n hΓ dJ6_indexOf_2_11) rfl ?_
    refine xw_ild (show xm_Imp g Γ 12 (xi_ild 2 13) from xs_iload_n hΓ dJ6_indexOf_2_12) rfl ?_
    refine xw_ald (show xm_Imp g Γ 13 (xi_ald 0 14) from xs_aload_n hΓ dJ6_indexOf_2_13) rfl ?_
    obtain ⟨_, e0, e⟩ := xo_b_s e
    obtain ⟨v5, e1, e⟩ := xo_b_s e
    refine xw_hv0 (o := (some p0)) (show xm_Imp g Γ 14 (xi_vir g 15 M_J6_length 2 0 17) from xs_invV hG hΓ k_J6_length rfl (ci := 15) rfl q946 q647 q648 dJ6_indexOf_2_14) (by simp [xm_stk, xv_cat, xc_int, xc_long, xc_float, xc_double, xc_ref]) rfl e0 (fun Q X hQ => K_J6_length hG p0 _ e1 hQ) ?_
    obtain ⟨v6, e1, e⟩ := xo_b_s e
    refine xw_sv4 (show xm_Imp g Γ 17 (xi_inv g M_J11_indexOf 2 4 20) from xs_invS hG hΓ k_J11_indexOf rfl q947 q948 dJ6_indexOf_2_17) rfl (fun Q X hQ => K_J11_indexOf hG v4 p1 p2 v5 _ e1 hQ) ?_
    refine xw_goto (show xm_Imp g Γ 20 (xi_goto 36) from xs_goto hΓ dJ6_indexOf_2_20 (by decide)) ?_
    have hq := hP0 _ (xl_fin e hp)
    exact xw_iret (show xm_Imp g Γ 36 (xi_iret .int _) from xs_ireturn hΓ rfl dJ6_indexOf_2_36) (xn_int _) hq
noncomputable def F_J6_indexOf (g : xm_G) (p0 : Nat) (p1 : Int32) (h : xm_H) : Option (Int32) :=
 xo_b (xh_is 15 h p0) (fun _ =>
 xo_b (F_J6_indexOf_2 g p0 p1 0 h) (fun v1 =>
 some v1))
set_option maxHeartbeats 4000000 in
theorem K_J6_indexOf {g : xm_G} (hG : xm_Gw g) (p0 : Nat) (p1 : Int32) (h : xm_H) {o : Int32} (e : F_J6_indexOf g p0 p1 h = some o) {Q : xm_P} {X : xm_X} (hQ : Q (some (.int o)) h) : xm_Run g M_J6_indexOf 4 [.ref p0, .int p1] h 0 0 Q X := by
  refine xm_Run.of pn_java_lang_String (Nat.le_of_ble_eq_true rfl) (fun Γ hΓ => ?_)
  obtain ⟨P0, hP0, hp⟩ : ∃ P : Int32 → Prop, (∀ o, P o → Q (some (.int o)) h) ∧ P o := ⟨fun o => Q (some (.int o)) h, fun _ h => h, hQ⟩
  clear hQ
  show xm_W g Γ 0 [some (.ref p0), some (.int p1)] [] h 0 0
  unfold F_J6_indexOf at e
  refine xw_ald (show xm_Imp g Γ 0 (xi_ald 0 1) from xs_aload_n hΓ dJ6_indexOf_0) rfl ?_
  refine xw_ild (show xm_Imp g Γ 1 (xi_ild 1 2) from xs_iload_n hΓ dJ6_indexOf_1) rfl ?_
  refine xw_psh (v := (.int (0))) (show xm_Imp g Γ 2 (xi_psh (.int (0)) 3) from xs_iconst hΓ dJ6_indexOf_2 (by decide)) ?_
  obtain ⟨_, e0, e⟩ := xo_b_s e
  obtain ⟨v1, e1, e⟩ := xo_b_s e
  refine xw_hv2 (o := (some p0)) (show xm_Imp g Γ 3 (xi_vir g 15 M_J6_indexOf_2 3 2 6) from xs_invV hG hΓ k_J6_indexOf_2 rfl (ci := 15) rfl q942 q943 q944 dJ6_indexOf_3) rfl rfl e0 (fun Q X hQ => K_J6_indexOf_2 hG p0 p1 0 _ e1 hQ) ?_
  have hq := hP0 _ (xl_fin e hp)
  exact xw_iret (show xm_Imp g Γ 6 (xi_iret .int _) from xs_ireturn hΓ rfl dJ6_indexOf_6) (xn_int _) hq
noncomputable def B_X6_string_144 (g : xm_G) (l0 : Nat) (l1 : Int32) (l2 : Int32) (l3 : Int32) (s0 : Option Nat) (s1 : Int32) (h : xm_H) (bc : Nat) (bs : Nat) (Q : Option Nat → xm_H → Prop) (X : xm_X) : Prop :=
 xt_b s0 (fun a14 =>
 xt_b (xh_is 5 h a14) (fun _ =>
 xt_c bc bs (fun m15 m16 => F_X6_require g a14 s1 3 h m15 m16 (fun h17 =>
 xt_b (xh_is 5 h17 l0) (fun _ =>
 xt_c (bc - m15) (bs - m16) (fun m19 m20 => F_X6_advance g l0 h17 m19 m20 (fun h21 =>
 xt_new h21 ((bc - m15) - m19) ((bs - m16) - m20) 3 (.inr (3, [.int 0, .int 0, .int 0])) (fun a23 h24 b25 b26 =>
 xt_b (F_X4_init g a23 l2 l3 l1 h24) (fun v27 =>
 Q (some a23) v27)))))) X)))
noncomputable def B_X6_string_112 (g : xm_G) (l0 : Nat) (l1 : Int32) (l2 : Int32) (l3 : Int32) (l4 : Int32) (h : xm_H) (bc : Nat) (bs : Nat) (k25 : Int32 × Int32 × Int32 × xm_H × Nat × Nat → Prop) (Q : Option Nat → xm_H → Prop) (X : xm_X) : Prop :=
 k25 (l2, l3, (l4 + 1), h, bc, bs)
noncomputable def B_X6_string_64 (g : xm_G) (l0 : Nat) (l1 : Int32) (l2 : Int32) (l3 : Int32) (l4 : Int32) (l5 : Int32) (s0 : Option Nat) (s1 : Int32) (h : xm_H) (bc : Nat) (bs : Nat) (k25 : Int32 × Int32 × Int32 × xm_H × Nat × Nat → Prop) (Q : Option Nat → xm_H → Prop) (X : xm_X) : Prop :=
 xt_b s0 (fun a32 =>
 xt_b (xh_is 5 h a32) (fun _ =>
 xt_c bc bs (fun m33 m34 => F_X6_require g a32 s1 1 h m33 m34 (fun h35 =>
 xt_b (xh_fi [(5, 5)] h35 l0) (fun v37 =>
 B_X6_string_112 g l0 l1 (if l4 < v37 then (if l5 = (1 : Int32) then (if l5 ≤ (1 : Int32) then l2 ||| (1 <<< (l4 &&& 31)) else l2 ||| (1 <<< (l4 &&& 31))) else (if l5 = (2 : Int32) then (if l5 ≤ (1 : Int32) then l2 ||| (1 <<< (l4 &&& 31)) else l2 ||| (1 <<< (l4 &&& 31))) else (if l5 ≤ (1 : Int32) then l2 else l2))) else l2) (if l4 < v37 then (if l5 = (1 : Int32) then (if l5 ≤ (1 : Int32) then l3 else l3 ||| (1 <<< (l4 &&& 31))) else (if l5 = (2 : Int32) then (if l5 ≤ (1 : Int32) then l3 else l3 ||| (1 <<< (l4 &&& 31))) else (if l5 ≤ (1 : Int32) then l3 else l3 ||| (1 <<< (l4 &&& 31))))) else l3) l4 h35 (bc - m33) (bs - m34) k25 Q X)) X)))
noncomputable def D_X6_string_25 (g : xm_G) (l0 : Nat) (l1 : Int32) (Q : Option Nat → xm_H → Prop) (X : xm_X) (k25 : Int32 × Int32 × Int32 × xm_H × Nat × Nat → Prop) (s : Int32 × Int32 × Int32 × xm_H × Nat × Nat) : Prop :=
 xt_b (xh_fr [(5, 9)] s.2.2.2.1 l0) (fun v7 =>
 xt_b v7 (fun a8 =>
 xt_b (xh_is 15 s.2.2.2.1 a8) (fun _ =>
 xt_b (F_J6_length g a8 s.2.2.2.1) (fun v9 =>
 (if v9 ≤ s.2.2.1 then
 xt_b (xh_fr [(5, 9)] s.2.2.2.1 l0) (fun v10 =>
 xt_b v10 (fun a11 =>
 xt_b (xh_is 15 s.2.2.2.1 a11) (fun _ =>
 xt_b (F_J6_length g a11 s.2.2.2.1) (fun v12 =>
 xt_b (xh_fi [(5, 5)] s.2.2.2.1 l0) (fun v13 =>
 B_X6_string_144 g l0 l1 s.1 s.2.1 (some l0) (if v12 = v13 then (if (s.1 ||| s.2.1) = 0 then 0 else 1) else 0) s.2.2.2.1 s.2.2.2.2.1 s.2.2.2.2.2 Q X))))) else
 xt_b (xh_fr [(5, 9)] s.2.2.2.1 l0) (fun v28 =>
 xt_b v28 (fun a29 =>
 xt_b (xh_is 15 s.2.2.2.1 a29) (fun _ =>
 xt_b (F_J6_charAt g a29 s.2.2.1 s.2.2.2.1) (fun v30 =>
 xt_b (xh_is 15 s.2.2.2.1 (xm_sa g "StringTableau$Parser" 141)) (fun _ =>
 xt_b (F_J6_indexOf g (xm_sa g "StringTableau$Parser" 141) v30 s.2.2.2.1) (fun v31 =>
 B_X6_string_64 g l0 l1 s.1 s.2.1 s.2.2.1 v31 (some l0) (if v31 < 0 then 0 else 1) s.2.2.2.1 s.2.2.2.2.1 s.2.2.2.2.2 k25 Q X)))))))))))
noncomputable def L_X6_string_25 (g : xm_G) (l0 : Nat) (l1 : Int32) (Q : Option Nat → xm_H → Prop) (X : xm_X) (s : Int32 × Int32 × Int32 × xm_H × Nat × Nat) : Prop := xt_loop (D_X6_string_25 g l0 l1 Q X) s
noncomputable def B_X6_string_14 (g : xm_G) (l0 : Nat) (l1 : Int32) (s0 : Option Nat) (s1 : Int32) (h : xm_H) (bc : Nat) (bs : Nat) (Q : Option Nat → xm_H → Prop) (X : xm_X) : Prop :=
 xt_b s0 (fun a2 =>
 xt_b (xh_is 5 h a2) (fun _ =>
 xt_c bc bs (fun m3 m4 => F_X6_require g a2 s1 1 h m3 m4 (fun h5 =>
 L_X6_string_25 g l0 l1 Q X (0, 0, 0, h5, (bc - m3), (bs - m4))) X)))
noncomputable def F_X6_string (g : xm_G) (p0 : Nat) (p1 : Int32) (h : xm_H) (bc : Nat) (bs : Nat) (Q : Option Nat → xm_H → Prop) (X : xm_X) : Prop :=
 xt_b (xh_fi [(5, 3)] h p0) (fun v1 =>
 B_X6_string_14 g p0 p1 (some p0) (if v1 = (2 : Int32) then 1 else 0) h bc bs Q X)
set_option maxHeartbeats 4000000 in
theorem K_X6_string {g : xm_G} (hG : xm_Gw g) (p0 : Nat) (p1 : Int32) (h : xm_H) (bc : Nat) (bs : Nat) {Q : Option Nat → xm_H → Prop} {X : xm_X} (e : F_X6_string g p0 p1 h bc bs Q X) : xm_Run g M_X6_string 21 [.ref p0, .int p1] h bc bs (fun v h' => ∃ r, v = some (va_rf r) ∧ Q r h') X := by
  refine xm_Run.of pn_StringTableau_Parser (Nat.le_of_ble_eq_true rfl) (fun Γ hΓ => ?_)
  show xm_W g Γ 0 [some (.ref p0), some (.int p1), none, none, none, none] [] h bc bs
  have hB_144 : ∀ (l0 : Nat) (l1 : Int32) (l2 : Int32) (l3 : Int32) (s0 : Option Nat) (s1 : Int32) (h : xm_H) (bc : Nat) (bs : Nat), B_X6_string_144 g l0 l1 l2 l3 s0 s1 h bc bs Q X → xm_W g Γ 144 [some (.ref l0), some (.int l1), some (.int l2), some (.int l3), none, none] [.int s1, va_rf s0] h bc bs := by
    intro l0 l1 l2 l3 s0 s1 h bc bs e
    unfold B_X6_string_144 at e
    refine xw_psh (v := (.int (3))) (show xm_Imp g Γ 144 (xi_psh (.int (3)) 145) from xs_iconst hΓ dX6_string_144 (by decide)) ?_
    obtain ⟨a14, ha14, e⟩ := e
    obtain ⟨_, e0, e⟩ := e
    obtain ⟨m15, m16, ⟨em1, em2⟩, e⟩ := e
    refine xw_tXvu2 (o := s0) (show xm_Imp g Γ 145 (xi_virX g 5 M_X6_require 8 2 148 X) from xs_invVX hG hΓ k_X6_require rfl rfl (ci := 5) rfl q774 q776 qs6 dX6_string_145) (by simp [xm_stk, xv_cat, xc_int, xc_long, xc_float, xc_double, xc_ref]) ha14 e0 em1 em2 (K_X6_require hG a14 s1 3 _ _ _ e) (fun h17 e => ?_)
    refine xw_ald (show xm_Imp g Γ 148 (xi_ald 0 149) from xs_aload_n hΓ dX6_string_148) rfl ?_
    obtain ⟨_, e0, e⟩ := e
    obtain ⟨m19, m20, ⟨em1, em2⟩, e⟩ := e
    refine xw_tvu0 (o := (some l0)) (show xm_Imp g Γ 149 (xi_vir g 5 M_X6_advance 20 0 152) from xs_invV hG hΓ k_X6_advance rfl (ci := 5) rfl q404 q406 qs1 dX6_string_149) rfl rfl e0 em1 em2 (K_X6_advance hG l0 _ _ _ e) (fun h21 e => ?_)
    refine xw_new (show xm_Imp g Γ 152 (xi_new 3 3 [.int 0, .int 0, .int 0] 155) from xs_new hG hΓ (ci := 3) rfl q984 q241 q127 rfl tyX4 tyX4_ok (xm_df 3 (by decide +kernel)) dX6_string_152) e (fun a23 h24 b25 b26 e => ?_)
    refine xw_dup (show xm_Imp g Γ 155 (xi_dup 156) from xs_dup hΓ dX6_string_155) rfl ?_
    refine xw_ild (show xm_Imp g Γ 156 (xi_ild 2 157) from xs_iload_n hΓ dX6_string_156) rfl ?_
    refine xw_ild (show xm_Imp g Γ 157 (xi_ild 3 158) from xs_iload_n hΓ dX6_string_157) rfl ?_
    refine xw_ild (show xm_Imp g Γ 158 (xi_ild 1 159) from xs_iload_n hΓ dX6_string_158) rfl ?_
    obtain ⟨v27, e1, e⟩ := e
    refine xw_pu3 (o := (some a23)) (show xm_Imp g Γ 159 (xi_spe g M_X4_init 2 3 162) from xs_invI hG hΓ k_X4_init rfl q985 q243 rfl dX6_string_159) rfl rfl (fun Q X hQ => K_X4_init hG a23 l2 l3 l1 _ e1 hQ) ?_
    exact xw_aret (show xm_Imp g Γ 162 (xi_aret _) from xs_areturn hΓ rfl (Or.inl ⟨_, rfl⟩) dX6_string_162) ⟨_, rfl, e⟩
  have hL_25 : ∀ (l0 : Nat) (l1 : Int32) (s : Int32 × Int32 × Int32 × xm_H × Nat × Nat), L_X6_string_25 g l0 l1 Q X s → xm_W g Γ 25 [some (.ref l0), some (.int l1), some (.int s.1), some (.int s.2.1), some (.int s.2.2.1), none] [] s.2.2.2.1 s.2.2.2.2.1 s.2.2.2.2.2 := by
    intro l0 l1
    refine xt_rule (WS := fun s : Int32 × Int32 × Int32 × xm_H × Nat × Nat => xm_W g Γ 25 [some (.ref l0), some (.int l1), some (.int s.1), some (.int s.2.1), some (.int s.2.2.1), none] [] s.2.2.2.1 s.2.2.2.2.1 s.2.2.2.2.2) ?_
    intro k25 hk25 s e
    have hB_112 : ∀ (l2 : Int32) (l3 : Int32) (l4 : Int32) (h : xm_H) (bc : Nat) (bs : Nat), B_X6_string_112 g l0 l1 l2 l3 l4 h bc bs k25 Q X → xm_W g Γ 112 [some (.ref l0), some (.int l1), some (.int l2), some (.int l3), some (.int l4), none] [] h bc bs := by
      intro l2 l3 l4 h bc bs e
      unfold B_X6_string_112 at e
      refine xw_inc (v := (1)) (ls' := [some (.ref l0), some (.int l1), some (.int l2), some (.int l3), some (.int (l4 + 1)), none]) (show xm_Imp g Γ 112 (xi_inc 4 (1) 115) from xs_iinc hΓ dX6_string_112 (by decide) (Nat.le_of_ble_eq_true rfl)) rfl rfl ?_
      refine xw_goto (show xm_Imp g Γ 115 (xi_goto 25) from xs_goto hΓ dX6_string_115 (by decide)) ?_
      have hq := hk25 _ e; exact hq
    have hB_64 : ∀ (l2 : Int32) (l3 : Int32) (l4 : Int32) (l5 : Int32) (s0 : Option Nat) (s1 : Int32) (h : xm_H) (bc : Nat) (bs : Nat), B_X6_string_64 g l0 l1 l2 l3 l4 l5 s0 s1 h bc bs k25 Q X → xm_W g Γ 64 [some (.ref l0), some (.int l1), some (.int l2), some (.int l3), some (.int l4), some (.int l5)] [.int s1, va_rf s0] h bc bs := by
      intro l2 l3 l4 l5 s0 s1 h bc bs e
      unfold B_X6_string_64 at e
      refine xw_psh (v := (.int (1))) (show xm_Imp g Γ 64 (xi_psh (.int (1)) 65) from xs_iconst hΓ dX6_string_64 (by decide)) ?_
      obtain ⟨a32, ha32, e⟩ := e
      obtain ⟨_, e0, e⟩ := e
      obtain ⟨m33, m34, ⟨em1, em2⟩, e⟩ := e
      refine xw_tXvu2 (o := s0) (show xm_Imp g Γ 65 (xi_virX g 5 M_X6_require 8 2 68 X) from xs_invVX hG hΓ k_X6_require rfl rfl (ci := 5) rfl q774 q776 qs6 dX6_string_65) (by simp [xm_stk, xv_cat, xc_int, xc_long, xc_float, xc_double, xc_ref]) ha32 e0 em1 em2 (K_X6_require hG a32 s1 1 _ _ _ e) (fun h35 e => ?_)
      refine xw_ild (show xm_Imp g Γ 68 (xi_ild 4 70) from xs_iload hΓ dX6_string_68) rfl ?_
      refine xw_ald (show xm_Imp g Γ 70 (xi_ald 0 71) from xs_aload_n hΓ dX6_string_70) rfl ?_
      obtain ⟨v37, e1, e⟩ := e
      refine xw_gi1 (o := (some l0)) (show xm_Imp g Γ 71 (xi_get 5 5 74) from xs_get hG hΓ (ci := 5) (kf := 5) rfl (Nat.le_of_ble_eq_true rfl) q728 dX6_string_71) rfl e1 ?_
      refine xw_ic (show xm_Imp g Γ 74 (xi_ic (fun x y => x < y) 80 77) from xs_icmp_lt hΓ dX6_string_74 (by decide)) (fun c => ?_) (fun c => ?_)
      · simp only [if_pos c] at e
        refine xw_ild (show xm_Imp g Γ 80 (xi_ild 5 82) from xs_iload hΓ dX6_string_80) rfl ?_
        refine xw_psh (v := (.int (1))) (show xm_Imp g Γ 82 (xi_psh (.int (1)) 83) from xs_iconst hΓ dX6_string_82 (by decide)) ?_
        refine xw_ic (show xm_Imp g Γ 83 (xi_ic (fun x y => x = y) 92 86) from xs_icmp_eq hΓ dX6_string_83 (by decide)) (fun c => ?_) (fun c => ?_)
        · simp only [if_pos c] at e
          refine xw_ild (show xm_Imp g Γ 92 (xi_ild 2 93) from xs_iload_n hΓ dX6_string_92) rfl ?_
          refine xw_psh (v := (.int (1))) (show xm_Imp g Γ 93 (xi_psh (.int (1)) 94) from xs_iconst hΓ dX6_string_93 (by decide)) ?_
          refine xw_ild (show xm_Imp g Γ 94 (xi_ild 4 96) from xs_iload hΓ dX6_string_94) rfl ?_
          refine xw_ii (show xm_Imp g Γ 96 (xi_ii (fun x y => x <<< (y &&& 31)) 97) from xs_ishl hΓ dX6_string_96) ?_
          refine xw_ii (show xm_Imp g Γ 97 (xi_ii (fun x y => x ||| y) 98) from xs_ior hΓ dX6_string_97) ?_
          refine xw_ist (ls' := [some (.ref l0), some (.int l1), some (.int (l2 ||| (1 <<< (l4 &&& 31)))), some (.int l3), some (.int l4), some (.int l5)]) (show xm_Imp g Γ 98 (xi_ist 2 99) from xs_istore_n hΓ dX6_string_98 (Nat.le_of_ble_eq_true rfl)) rfl ?_
          refine xw_ild (show xm_Imp g Γ 99 (xi_ild 5 101) from xs_iload hΓ dX6_string_99) rfl ?_
          refine xw_psh (v := (.int (1))) (show xm_Imp g Γ 101 (xi_psh (.int (1)) 102) from xs_iconst hΓ dX6_string_101 (by decide)) ?_
          refine xw_ic (show xm_Imp g Γ 102 (xi_ic (fun x y => x ≤ y) 112 105) from xs_icmp_le hΓ dX6_string_102 (by decide)) (fun c => ?_) (fun c => ?_)
          · simp only [if_pos c] at e
            exact xm_lx (hB_112 _ _ _ _ _ _ e) (And.intro rfl (And.intro rfl (And.intro rfl (And.intro rfl (And.intro rfl (trivial))))))
          · simp only [if_neg c] at e
            refine xw_ild (show xm_Imp g Γ 105 (xi_ild 3 106) from xs_iload_n hΓ dX6_string_105) rfl ?_
            refine xw_psh (v := (.int (1))) (show xm_Imp g Γ 106 (xi_psh (.int (1)) 107) from xs_iconst hΓ dX6_string_106 (by decide)) ?_
            refine xw_ild (show xm_Imp g Γ 107 (xi_ild 4 109) from xs_iload hΓ dX6_string_107) rfl ?_
            refine xw_ii (show xm_Imp g Γ 109 (xi_ii (fun x y => x <<< (y &&& 31)) 110) from xs_ishl hΓ dX6_string_109) ?_
            refine xw_ii (show xm_Imp g Γ 110 (xi_ii (fun x y => x ||| y) 111) from xs_ior hΓ dX6_string_110) ?_
            refine xw_ist (ls' := [some (.ref l0), some (.int l1), some (.int (l2 ||| (1 <<< (l4 &&& 31)))), some (.int (l3 ||| (1 <<< (l4 &&& 31)))), some (.int l4), some (.int l5)]) (show xm_Imp g Γ 111 (xi_ist 3 112) from xs_istore_n hΓ dX6_string_111 (Nat.le_of_ble_eq_true rfl)) rfl ?_
            exact xm_lx (hB_112 _ _ _ _ _ _ e) (And.intro rfl (And.intro rfl (And.intro rfl (And.intro rfl (And.intro rfl (trivial))))))
        · simp only [if_neg c] at e
          refine xw_ild (show xm_Imp g Γ 86 (xi_ild 5 88) from xs_iload hΓ dX6_string_86) rfl ?_
          refine xw_psh (v := (.int (2))) (show xm_Imp g Γ 88 (xi_psh (.int (2)) 89) from xs_iconst hΓ dX6_string_88 (by decide)) ?_
          refine xw_ic (show xm_Imp g Γ 89 (xi_ic (fun x y => x = y) 92 99) from xs_icmp_ne hΓ dX6_string_89 (by decide)) (fun c => ?_) (fun c => ?_)
          · simp only [if_pos c] at e
            refine xw_ild (show xm_Imp g Γ 92 (xi_ild 2 93) from xs_iload_n hΓ dX6_string_92) rfl ?_
            refine xw_psh (v := (.int (1))) (show xm_Imp g Γ 93 (xi_psh (.int (1)) 94) from xs_iconst hΓ dX6_string_93 (by decide)) ?_
            refine xw_ild (show xm_Imp g Γ 94 (xi_ild 4 96) from xs_iload hΓ dX6_string_94) rfl ?_
            refine xw_ii (show xm_Imp g Γ 96 (xi_ii (fun x y => x <<< (y &&& 31)) 97) from xs_ishl hΓ dX6_string_96) ?_
            refine xw_ii (show xm_Imp g Γ 97 (xi_ii (fun x y => x ||| y) 98) from xs_ior hΓ dX6_string_97) ?_
            refine xw_ist (ls' := [some (.ref l0), some (.int l1), some (.int (l2 ||| (1 <<< (l4 &&& 31)))), some (.int l3), some (.int l4), some (.int l5)]) (show xm_Imp g Γ 98 (xi_ist 2 99) from xs_istore_n hΓ dX6_string_98 (Nat.le_of_ble_eq_true rfl)) rfl ?_
            refine xw_ild (show xm_Imp g Γ 99 (xi_ild 5 101) from xs_iload hΓ dX6_string_99) rfl ?_
            refine xw_psh (v := (.int (1))) (show xm_Imp g Γ 101 (xi_psh (.int (1)) 102) from xs_iconst hΓ dX6_string_101 (by decide)) ?_
            refine xw_ic (show xm_Imp g Γ 102 (xi_ic (fun x y => x ≤ y) 112 105) from xs_icmp_le hΓ dX6_string_102 (by decide)) (fun c => ?_) (fun c => ?_)
            · simp only [if_pos c] at e
              exact xm_lx (hB_112 _ _ _ _ _ _ e) (And.intro rfl (And.intro rfl (And.intro rfl (And.intro rfl (And.intro rfl (trivial))))))
            · simp only [if_neg c] at e
              refine xw_ild (show xm_Imp g Γ 105 (xi_ild 3 106) from xs_iload_n hΓ dX6_string_105) rfl ?_
              refine xw_psh (v := (.int (1))) (show xm_Imp g Γ 106 (xi_psh (.int (1)) 107) from xs_iconst hΓ dX6_string_106 (by decide)) ?_
              refine xw_ild (show xm_Imp g Γ 107 (xi_ild 4 109) from xs_iload hΓ dX6_string_107) rfl ?_
              refine xw_ii (show xm_Imp g Γ 109 (xi_ii (fun x y => x <<< (y &&& 31)) 110) from xs_ishl hΓ dX6_string_109) ?_
              refine xw_ii (show xm_Imp g Γ 110 (xi_ii (fun x y => x ||| y) 111) from xs_ior hΓ dX6_string_110) ?_
              refine xw_ist (ls' := [some (.ref l0), some (.int l1), some (.int (l2 ||| (1 <<< (l4 &&& 31)))), some (.int (l3 ||| (1 <<< (l4 &&& 31)))), some (.int l4), some (.int l5)]) (show xm_Imp g Γ 111 (xi_ist 3 112) from xs_istore_n hΓ dX6_string_111 (Nat.le_of_ble_eq_true rfl)) rfl ?_
              exact xm_lx (hB_112 _ _ _ _ _ _ e) (And.intro rfl (And.intro rfl (And.intro rfl (And.intro rfl (And.intro rfl (trivial))))))
          · simp only [if_neg c] at e
            refine xw_ild (show xm_Imp g Γ 99 (xi_ild 5 101) from xs_iload hΓ dX6_string_99) rfl ?_
            refine xw_psh (v := (.int (1))) (show xm_Imp g Γ 101 (xi_psh (.int (1)) 102) from xs_iconst hΓ dX6_string_101 (by decide)) ?_
            refine xw_ic (show xm_Imp g Γ 102 (xi_ic (fun x y => x ≤ y) 112 105) from xs_icmp_le hΓ dX6_string_102 (by decide)) (fun c => ?_) (fun c => ?_)
            · simp only [if_pos c] at e
              exact xm_lx (hB_112 _ _ _ _ _ _ e) (And.intro rfl (And.intro rfl (And.intro rfl (And.intro rfl (And.intro rfl (trivial))))))
            · simp only [if_neg c] at e
              refine xw_ild (show xm_Imp g Γ 105 (xi_ild 3 106) from xs_iload_n hΓ dX6_string_105) rfl ?_
              refine xw_psh (v := (.int (1))) (show xm_Imp g Γ 106 (xi_psh (.int (1)) 107) from xs_iconst hΓ dX6_string_106 (by decide)) ?_
              refine xw_ild (show xm_Imp g Γ 107 (xi_ild 4 109) from xs_iload hΓ dX6_string_107) rfl ?_
              refine xw_ii (show xm_Imp g Γ 109 (xi_ii (fun x y => x <<< (y &&& 31)) 110) from xs_ishl hΓ dX6_string_109) ?_
              refine xw_ii (show xm_Imp g Γ 110 (xi_ii (fun x y => x ||| y) 111) from xs_ior hΓ dX6_string_110) ?_
              refine xw_ist (ls' := [some (.ref l0), some (.int l1), some (.int l2), some (.int (l3 ||| (1 <<< (l4 &&& 31)))), some (.int l4), some (.int l5)]) (show xm_Imp g Γ 111 (xi_ist 3 112) from xs_istore_n hΓ dX6_string_111 (Nat.le_of_ble_eq_true rfl)) rfl ?_
              exact xm_lx (hB_112 _ _ _ _ _ _ e) (And.intro rfl (And.intro rfl (And.intro rfl (And.intro rfl (And.intro rfl (trivial))))))
      · simp only [if_neg c] at e
        refine xw_goto (show xm_Imp g Γ 77 (xi_goto 112) from xs_goto hΓ dX6_string_77 (by decide)) ?_
        exact xm_lx (hB_112 _ _ _ _ _ _ e) (And.intro rfl (And.intro rfl (And.intro rfl (And.intro rfl (And.intro rfl (trivial))))))
    unfold D_X6_string_25 at e
    refine xw_ild (show xm_Imp g Γ 25 (xi_ild 4 27) from xs_iload hΓ dX6_string_25) rfl ?_
    refine xw_ald (show xm_Imp g Γ 27 (xi_ald 0 28) from xs_aload_n hΓ dX6_string_27) rfl ?_
    obtain ⟨v7, e1, e⟩ := e
    refine xw_gr1 (o := (some l0)) (show xm_Imp g Γ 28 (xi_get 5 9 31) from xs_get hG hΓ (ci := 5) (kf := 9) rfl (Nat.le_of_ble_eq_true rfl) q732 dX6_string_28) rfl e1 ?_
    obtain ⟨a8, ha8, e⟩ := e
    obtain ⟨_, e0, e⟩ := e
    obtain ⟨v9, e1, e⟩ := e
    refine xw_hv0 (o := v7) (show xm_Imp g Γ 31 (xi_vir g 15 M_J6_length 2 0 34) from xs_invV hG hΓ k_J6_length rfl (ci := 15) rfl q925 q647 q648 dX6_string_31) (by simp [xm_stk, xv_cat, xc_int, xc_long, xc_float, xc_double, xc_ref]) ha8 e0 (fun Q X hQ => K_J6_length hG a8 _ e1 hQ) ?_
    refine xw_ic (show xm_Imp g Γ 34 (xi_ic (fun x y => y ≤ x) 118 37) from xs_icmp_ge hΓ dX6_string_34 (by decide)) (fun c => ?_) (fun c => ?_)
    · rw [if_pos c] at e
      refine xw_ald (show xm_Imp g Γ 118 (xi_ald 0 119) from xs_aload_n hΓ dX6_string_118) rfl ?_
      refine xw_ald (show xm_Imp g Γ 119 (xi_ald 0 120) from xs_aload_n hΓ dX6_string_119) rfl ?_
      obtain ⟨v10, e1, e⟩ := e
      refine xw_gr1 (o := (some l0)) (show xm_Imp g Γ 120 (xi_get 5 9 123) from xs_get hG hΓ (ci := 5) (kf := 9) rfl (Nat.le_of_ble_eq_true rfl) q732 dX6_string_120) rfl e1 ?_
      obtain ⟨a11, ha11, e⟩ := e
      obtain ⟨_, e0, e⟩ := e
      obtain ⟨v12, e1, e⟩ := e
      refine xw_hv0 (o := v10) (show xm_Imp g Γ 123 (xi_vir g 15 M_J6_length 2 0 126) from xs_invV hG hΓ k_J6_length rfl (ci := 15) rfl q925 q647 q648 dX6_string_123) (by simp [xm_stk, xv_cat, xc_int, xc_long, xc_float, xc_double, xc_ref]) ha11 e0 (fun Q X hQ => K_J6_length hG a11 _ e1 hQ) ?_
      refine xw_ald (show xm_Imp g Γ 126 (xi_ald 0 127) from xs_aload_n hΓ dX6_string_126) rfl ?_
      obtain ⟨v13, e1, e⟩ := e
      refine xw_gi1 (o := (some l0)) (show xm_Imp g Γ 127 (xi_get 5 5 130) from xs_get hG hΓ (ci := 5) (kf := 5) rfl (Nat.le_of_ble_eq_true rfl) q728 dX6_string_127) rfl e1 ?_
      refine xw_ic (show xm_Imp g Γ 130 (xi_ic (fun x y => x = y) 133 143) from xs_icmp_ne hΓ dX6_string_130 (by decide)) (fun c => ?_) (fun c => ?_)
      · rw [if_pos c] at e
        refine xw_ild (show xm_Imp g Γ 133 (xi_ild 2 134) from xs_iload_n hΓ dX6_string_133) rfl ?_
        refine xw_ild (show xm_Imp g Γ 134 (xi_ild 3 135) from xs_iload_n hΓ dX6_string_134) rfl ?_
        refine xw_ii (show xm_Imp g Γ 135 (xi_ii (fun x y => x ||| y) 136) from xs_ior hΓ dX6_string_135) ?_
        refine xw_if (show xm_Imp g Γ 136 (xi_if (fun x => x = 0) 143 139) from xs_if_eq hΓ dX6_string_136 (by decide)) (fun c => ?_) (fun c => ?_)
        · rw [if_pos c] at e
          refine xw_psh (v := (.int (0))) (show xm_Imp g Γ 143 (xi_psh (.int (0)) 144) from xs_iconst hΓ dX6_string_143 (by decide)) ?_
          exact xm_lx (hB_144 _ _ _ _ _ _ _ _ _ e) (And.intro rfl (And.intro rfl (And.intro rfl (And.intro rfl (trivial)))))
        · rw [if_neg c] at e
          refine xw_psh (v := (.int (1))) (show xm_Imp g Γ 139 (xi_psh (.int (1)) 140) from xs_iconst hΓ dX6_string_139 (by decide)) ?_
          refine xw_goto (show xm_Imp g Γ 140 (xi_goto 144) from xs_goto hΓ dX6_string_140 (by decide)) ?_
          exact xm_lx (hB_144 _ _ _ _ _ _ _ _ _ e) (And.intro rfl (And.intro rfl (And.intro rfl (And.intro rfl (trivial)))))
      · rw [if_neg c] at e
        refine xw_psh (v := (.int (0))) (show xm_Imp g Γ 143 (xi_psh (.int (0)) 144) from xs_iconst hΓ dX6_string_143 (by decide)) ?_
        exact xm_lx (hB_144 _ _ _ _ _ _ _ _ _ e) (And.intro rfl (And.intro rfl (And.intro rfl (And.intro rfl (trivial)))))
    · rw [if_neg c] at e
      refine xw_psh (v := (.ref (xm_sa g "StringTableau$Parser" 141))) (show xm_Imp g Γ 37 (xi_psh (.ref (xm_sa g "StringTableau$Parser" 141)) 39) from xs_ldS hG hΓ q926 dX6_string_37) ?_
      refine xw_ald (show xm_Imp g Γ 39 (xi_ald 0 40) from xs_aload_n hΓ dX6_string_39) rfl ?_
      obtain ⟨v28, e1, e⟩ := e
      refine xw_gr1 (o := (some l0)) (show xm_Imp g Γ 40 (xi_get 5 9 43) from xs_get hG hΓ (ci := 5) (kf := 9) rfl (Nat.le_of_ble_eq_true rfl) q732 dX6_string_40) rfl e1 ?_
      refine xw_ild (show xm_Imp g Γ 43 (xi_ild 4 45) from xs_iload hΓ dX6_string_43) rfl ?_
      obtain ⟨a29, ha29, e⟩ := e
      obtain ⟨_, e0, e⟩ := e
      obtain ⟨v30, e1, e⟩ := e
      refine xw_hv1 (o := v28) (show xm_Imp g Γ 45 (xi_vir g 15 M_J6_charAt 11 1 48) from xs_invV hG hΓ k_J6_charAt rfl (ci := 15) rfl q927 q928 q929 dX6_string_45) (by simp [xm_stk, xv_cat, xc_int, xc_long, xc_float, xc_double, xc_ref]) ha29 e0 (fun Q X hQ => K_J6_charAt hG a29 s.2.2.1 _ e1 hQ) ?_
      obtain ⟨_, e0, e⟩ := e
      obtain ⟨v31, e1, e⟩ := e
      refine xw_hv1 (o := (some (xm_sa g "StringTableau$Parser" 141))) (show xm_Imp g Γ 48 (xi_vir g 15 M_J6_indexOf 4 1 51) from xs_invV hG hΓ k_J6_indexOf rfl (ci := 15) rfl q938 q939 q940 dX6_string_48) rfl rfl e0 (fun Q X hQ => K_J6_indexOf hG (xm_sa g "StringTableau$Parser" 141) v30 _ e1 hQ) ?_
      refine xw_ist (ls' := [some (.ref l0), some (.int l1), some (.int s.1), some (.int s.2.1), some (.int s.2.2.1), some (.int v31)]) (show xm_Imp g Γ 51 (xi_ist 5 53) from xs_istore hΓ dX6_string_51 (Nat.le_of_ble_eq_true rfl)) rfl ?_
      refine xw_ald (show xm_Imp g Γ 53 (xi_ald 0 54) from xs_aload_n hΓ dX6_string_53) rfl ?_
      refine xw_ild (show xm_Imp g Γ 54 (xi_ild 5 56) from xs_iload hΓ dX6_string_54) rfl ?_
      refine xw_if (show xm_Imp g Γ 56 (xi_if (fun x => x < 0) 63 59) from xs_if_lt hΓ dX6_string_56 (by decide)) (fun c => ?_) (fun c => ?_)
      · rw [if_pos c] at e
        refine xw_psh (v := (.int (0))) (show xm_Imp g Γ 63 (xi_psh (.int (0)) 64) from xs_iconst hΓ dX6_string_63 (by decide)) ?_
        exact hB_64 _ _ _ _ _ _ _ _ _ e
      · rw [if_neg c] at e
        refine xw_psh (v := (.int (1))) (show xm_Imp g Γ 59 (xi_psh (.int (1)) 60) from xs_iconst hΓ dX6_string_59 (by decide)) ?_
        refine xw_goto (show xm_Imp g Γ 60 (xi_goto 64) from xs_goto hΓ dX6_string_60 (by decide)) ?_
        exact hB_64 _ _ _ _ _ _ _ _ _ e
  have hB_14 : ∀ (l0 : Nat) (l1 : Int32) (s0 : Option Nat) (s1 : Int32) (h : xm_H) (bc : Nat) (bs : Nat), B_X6_string_14 g l0 l1 s0 s1 h bc bs Q X → xm_W g Γ 14 [some (.ref l0), some (.int l1), none, none, none, none] [.int s1, va_rf s0] h bc bs := by
    intro l0 l1 s0 s1 h bc bs e
    unfold B_X6_string_14 at e
    refine xw_psh (v := (.int (1))) (show xm_Imp g Γ 14 (xi_psh (.int (1)) 15) from xs_iconst hΓ dX6_string_14 (by decide)) ?_
    obtain ⟨a2, ha2, e⟩ := e
    obtain ⟨_, e0, e⟩ := e
    obtain ⟨m3, m4, ⟨em1, em2⟩, e⟩ := e
    refine xw_tXvu2 (o := s0) (show xm_Imp g Γ 15 (xi_virX g 5 M_X6_require 8 2 18 X) from xs_invVX hG hΓ k_X6_require rfl rfl (ci := 5) rfl q774 q776 qs6 dX6_string_15) (by simp [xm_stk, xv_cat, xc_int, xc_long, xc_float, xc_double, xc_ref]) ha2 e0 em1 em2 (K_X6_require hG a2 s1 1 _ _ _ e) (fun h5 e => ?_)
    refine xw_psh (v := (.int (0))) (show xm_Imp g Γ 18 (xi_psh (.int (0)) 19) from xs_iconst hΓ dX6_string_18 (by decide)) ?_
    refine xw_ist (ls' := [some (.ref l0), some (.int l1), some (.int 0), none, none, none]) (show xm_Imp g Γ 19 (xi_ist 2 20) from xs_istore_n hΓ dX6_string_19 (Nat.le_of_ble_eq_true rfl)) rfl ?_
    refine xw_psh (v := (.int (0))) (show xm_Imp g Γ 20 (xi_psh (.int (0)) 21) from xs_iconst hΓ dX6_string_20 (by decide)) ?_
    refine xw_ist (ls' := [some (.ref l0), some (.int l1), some (.int 0), some (.int 0), none, none]) (show xm_Imp g Γ 21 (xi_ist 3 22) from xs_istore_n hΓ dX6_string_21 (Nat.le_of_ble_eq_true rfl)) rfl ?_
    refine xw_psh (v := (.int (0))) (show xm_Imp g Γ 22 (xi_psh (.int (0)) 23) from xs_iconst hΓ dX6_string_22 (by decide)) ?_
    refine xw_ist (ls' := [some (.ref l0), some (.int l1), some (.int 0), some (.int 0), some (.int 0), none]) (show xm_Imp g Γ 23 (xi_ist 4 25) from xs_istore hΓ dX6_string_23 (Nat.le_of_ble_eq_true rfl)) rfl ?_
    exact hL_25 _ _ _ e
  unfold F_X6_string at e
  refine xw_ald (show xm_Imp g Γ 0 (xi_ald 0 1) from xs_aload_n hΓ dX6_string_0) rfl ?_
  refine xw_ald (show xm_Imp g Γ 1 (xi_ald 0 2) from xs_aload_n hΓ dX6_string_1) rfl ?_
  obtain ⟨v1, e1, e⟩ := e
  refine xw_gi1 (o := (some p0)) (show xm_Imp g Γ 2 (xi_get 5 3 5) from xs_get hG hΓ (ci := 5) (kf := 3) rfl (Nat.le_of_ble_eq_true rfl) q726 dX6_string_2) rfl e1 ?_
  refine xw_psh (v := (.int (2))) (show xm_Imp g Γ 5 (xi_psh (.int (2)) 6) from xs_iconst hΓ dX6_string_5 (by decide)) ?_
  refine xw_ic (show xm_Imp g Γ 6 (xi_ic (fun x y => x = y) 9 13) from xs_icmp_ne hΓ dX6_string_6 (by decide)) (fun c => ?_) (fun c => ?_)
  · rw [if_pos c] at e
    refine xw_psh (v := (.int (1))) (show xm_Imp g Γ 9 (xi_psh (.int (1)) 10) from xs_iconst hΓ dX6_string_9 (by decide)) ?_
    refine xw_goto (show xm_Imp g Γ 10 (xi_goto 14) from xs_goto hΓ dX6_string_10 (by decide)) ?_
    exact hB_14 _ _ _ _ _ _ _ e
  · rw [if_neg c] at e
    refine xw_psh (v := (.int (0))) (show xm_Imp g Γ 13 (xi_psh (.int (0)) 14) from xs_iconst hΓ dX6_string_13 (by decide)) ?_
    exact hB_14 _ _ _ _ _ _ _ e
