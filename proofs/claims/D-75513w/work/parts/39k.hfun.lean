/-! METHODS ON KNOWN CELLS as functions (printed by gen/mkhfun.py) -/
set_option maxRecDepth 100000
noncomputable def F_J3_isEmpty (g : xm_G) (p0 : Nat) (h : xm_H) : Option (Int32) :=
 xo_b (xh_fi [(13, 1)] h p0) (fun v1 =>
 xo_b (xh_fi [(13, 2)] h p0) (fun v2 =>
 (if v1 = v2 then
 some 1 else
 some 0)))
set_option maxHeartbeats 4000000 in
theorem K_J3_isEmpty {g : xm_G} (hG : xm_Gw g) (p0 : Nat) (h : xm_H) {o : Int32} (e : F_J3_isEmpty g p0 h = some o) {Q : xm_P} {X : xm_X} (hQ : Q (some (.int o)) h) : xm_Run g M_J3_isEmpty 1 [.ref p0] h 0 0 Q X := by
  refine xm_Run.of pn_java_util_ArrayDeque (Nat.le_of_ble_eq_true rfl) (fun Γ hΓ => ?_)
  obtain ⟨P0, hP0, hp⟩ : ∃ P : Int32 → Prop, (∀ o, P o → Q (some (.int o)) h) ∧ P o := ⟨fun o => Q (some (.int o)) h, fun _ h => h, hQ⟩
  clear hQ
  show xm_W g Γ 0 [some (.ref p0)] [] h 0 0
  unfold F_J3_isEmpty at e
  refine xw_ald (show xm_Imp g Γ 0 (xi_ald 0 1) from xs_aload_n hΓ dJ3_isEmpty_0) rfl ?_
  obtain ⟨v1, e1, e⟩ := xo_b_s e
  refine xw_gi1 (o := (some p0)) (show xm_Imp g Γ 1 (xi_get 13 1 4) from xs_get hG hΓ (ci := 13) (kf := 1) rfl (Nat.le_of_ble_eq_true rfl) q224 dJ3_isEmpty_1) rfl e1 ?_
  refine xw_ald (show xm_Imp g Γ 4 (xi_ald 0 5) from xs_aload_n hΓ dJ3_isEmpty_4) rfl ?_
  obtain ⟨v2, e1, e⟩ := xo_b_s e
  refine xw_gi1 (o := (some p0)) (show xm_Imp g Γ 5 (xi_get 13 2 8) from xs_get hG hΓ (ci := 13) (kf := 2) rfl (Nat.le_of_ble_eq_true rfl) q225 dJ3_isEmpty_5) rfl e1 ?_
  refine xw_ic (show xm_Imp g Γ 8 (xi_ic (fun x y => x = y) 11 15) from xs_icmp_ne hΓ dJ3_isEmpty_8 (by decide)) (fun c => ?_) (fun c => ?_)
  · rw [if_pos c] at e
    refine xw_psh (v := (.int (1))) (show xm_Imp g Γ 11 (xi_psh (.int (1)) 12) from xs_iconst hΓ dJ3_isEmpty_11 (by decide)) ?_
    refine xw_goto (show xm_Imp g Γ 12 (xi_goto 16) from xs_goto hΓ dJ3_isEmpty_12 (by decide)) ?_
    have hq := hP0 _ (xl_fin e hp)
    exact xw_iret (show xm_Imp g Γ 16 (xi_iret .boolean _) from xs_ireturn hΓ rfl dJ3_isEmpty_16) rfl hq
  · rw [if_neg c] at e
    refine xw_psh (v := (.int (0))) (show xm_Imp g Γ 15 (xi_psh (.int (0)) 16) from xs_iconst hΓ dJ3_isEmpty_15 (by decide)) ?_
    have hq := hP0 _ (xl_fin e hp)
    exact xw_iret (show xm_Imp g Γ 16 (xi_iret .boolean _) from xs_ireturn hΓ rfl dJ3_isEmpty_16) rfl hq
noncomputable def B_X1_undo_15 (g : xm_G) (l0 : Nat) (s0 : Int32) (h : xm_H) (bc : Nat) (bs : Nat) (Q : Int32 → xm_H → Prop) (X : xm_X) : Prop :=
 xt_c bc bs (fun m4 m5 => F_X1_checkState g s0 h m4 m5 (fun h6 =>
 xt_b (xh_fr [(0, 2)] h6 l0) (fun v8 =>
 xt_b v8 (fun a9 =>
 xt_b (xh_is 13 h6 a9) (fun _ =>
 xt_b (F_J3_removeLast g a9 h6) (fun v10 =>
 xt_b (xh_cast "StringTableau$State" v10.2 v10.1) (fun _ =>
 xt_b (xh_w [(0, 0)] v10.2 l0 (va_rf v10.1)) (fun h11 =>
 xt_b (xh_fr [(0, 2)] h11 l0) (fun v12 =>
 xt_b v12 (fun a13 =>
 xt_b (xh_is 13 h11 a13) (fun _ =>
 xt_b (F_J3_size g a13 h11) (fun v14 =>
 Q v14 h11))))))))))) X)
noncomputable def F_X1_undo (g : xm_G) (p0 : Nat) (h : xm_H) (bc : Nat) (bs : Nat) (Q : Int32 → xm_H → Prop) (X : xm_X) : Prop :=
 xt_b (xh_fr [(0, 2)] h p0) (fun v1 =>
 xt_b v1 (fun a2 =>
 xt_b (xh_is 13 h a2) (fun _ =>
 xt_b (F_J3_isEmpty g a2 h) (fun v3 =>
 B_X1_undo_15 g p0 (if v3 = 0 then 1 else 0) h bc bs Q X))))
set_option maxHeartbeats 4000000 in
theorem K_X1_undo {g : xm_G} (hG : xm_Gw g) (p0 : Nat) (h : xm_H) (bc : Nat) (bs : Nat) {Q : Int32 → xm_H → Prop} {X : xm_X} (e : F_X1_undo g p0 h bc bs Q X) : xm_Run g M_X1_undo 9 [.ref p0] h bc bs (fun v h' => ∃ r, v = some (.int r) ∧ Q r h') X := by
  refine xm_Run.of pn_StringTableau (Nat.le_of_ble_eq_true rfl) (fun Γ hΓ => ?_)
  show xm_W g Γ 0 [some (.ref p0)] [] h bc bs
  have hB_15 : ∀ (l0 : Nat) (s0 : Int32) (h : xm_H) (bc : Nat) (bs : Nat), B_X1_undo_15 g l0 s0 h bc bs Q X → xm_W g Γ 15 [some (.ref l0)] [.int s0] h bc bs := by
    intro l0 s0 h bc bs e
    unfold B_X1_undo_15 at e
    obtain ⟨m4, m5, ⟨em1, em2⟩, e⟩ := e
    refine xw_tXsu1 (show xm_Imp g Γ 15 (xi_invX g M_X1_checkState 8 1 18 X) from xs_invSX hG hΓ k_X1_checkState rfl rfl q1891 q1892 dX1_undo_15) rfl em1 em2 (K_X1_checkState hG s0 _ _ _ e) (fun h6 e => ?_)
    refine xw_ald (show xm_Imp g Γ 18 (xi_ald 0 19) from xs_aload_n hΓ dX1_undo_18) rfl ?_
    refine xw_ald (show xm_Imp g Γ 19 (xi_ald 0 20) from xs_aload_n hΓ dX1_undo_19) rfl ?_
    obtain ⟨v8, e1, e⟩ := e
    refine xw_gr1 (o := (some l0)) (show xm_Imp g Γ 20 (xi_get 0 2 23) from xs_get hG hΓ (ci := 0) (kf := 2) rfl (Nat.le_of_ble_eq_true rfl) q347 dX1_undo_20) rfl e1 ?_
    obtain ⟨a9, ha9, e⟩ := e
    obtain ⟨_, e0, e⟩ := e
    obtain ⟨v10, e1, e⟩ := e
    refine xw_hv0 (o := v8) (show xm_Imp g Γ 23 (xi_vir g 13 M_J3_removeLast 8 0 26) from xs_invV hG hΓ k_J3_removeLast rfl (ci := 13) rfl q1921 q1922 q1923 dX1_undo_23) (by simp [xm_stk, xv_cat, xc_int, xc_long, xc_float, xc_double, xc_ref]) ha9 e0 (fun Q X hQ => K_J3_removeLast hG a9 _ e1 hQ) ?_
    obtain ⟨_, e1, e⟩ := e
    refine xw_cast (o := v10.1) (show xm_Imp g Γ 26 (xi_cast "StringTableau$State" 29) from xs_cast hG hΓ (xm_in 1 rfl) q181 dX1_undo_26) e1 ?_
    obtain ⟨h11, e1, e⟩ := e
    refine xw_pt1 (o := (some l0)) (show xm_Imp g Γ 29 (xi_put 0 0 (.object "StringTableau$State") 32) from xs_put hG hΓ (ci := 0) (kf := 0) rfl (Nat.le_of_ble_eq_true rfl) rfl (by decide +kernel) q343 dX1_undo_29) rfl (xv_fit (Or.inl ⟨_, rfl⟩) v10.1) e1 ?_
    refine xw_ald (show xm_Imp g Γ 32 (xi_ald 0 33) from xs_aload_n hΓ dX1_undo_32) rfl ?_
    obtain ⟨v12, e1, e⟩ := e
    refine xw_gr1 (o := (some l0)) (show xm_Imp g Γ 33 (xi_get 0 2 36) from xs_get hG hΓ (ci := 0) (kf := 2) rfl (Nat.le_of_ble_eq_true rfl) q347 dX1_undo_33) rfl e1 ?_
    obtain ⟨a13, ha13, e⟩ := e
    obtain ⟨_, e0, e⟩ := e
    obtain ⟨v14, e1, e⟩ := e
    refine xw_hv0 (o := v12) (show xm_Imp g Γ 36 (xi_vir g 13 M_J3_size 2 0 39) from xs_invV hG hΓ k_J3_size rfl (ci := 13) rfl q1165 q1166 q1167 dX1_undo_36) (by simp [xm_stk, xv_cat, xc_int, xc_long, xc_float, xc_double, xc_ref]) ha13 e0 (fun Q X hQ => K_J3_size hG a13 _ e1 hQ) ?_
    exact xw_iret (show xm_Imp g Γ 39 (xi_iret .int _) from xs_ireturn hΓ rfl dX1_undo_39) (xn_int _) ⟨_, rfl, e⟩
  unfold F_X1_undo at e
  refine xw_ald (show xm_Imp g Γ 0 (xi_ald 0 1) from xs_aload_n hΓ dX1_undo_0) rfl ?_
  obtain ⟨v1, e1, e⟩ := e
  refine xw_gr1 (o := (some p0)) (show xm_Imp g Γ 1 (xi_get 0 2 4) from xs_get hG hΓ (ci := 0) (kf := 2) rfl (Nat.le_of_ble_eq_true rfl) q347 dX1_undo_1) rfl e1 ?_
  obtain ⟨a2, ha2, e⟩ := e
  obtain ⟨_, e0, e⟩ := e
  obtain ⟨v3, e1, e⟩ := e
  refine xw_hv0 (o := v1) (show xm_Imp g Γ 4 (xi_vir g 13 M_J3_isEmpty 1 0 7) from xs_invV hG hΓ k_J3_isEmpty rfl (ci := 13) rfl q1956 q1957 q1958 dX1_undo_4) (by simp [xm_stk, xv_cat, xc_int, xc_long, xc_float, xc_double, xc_ref]) ha2 e0 (fun Q X hQ => K_J3_isEmpty hG a2 _ e1 hQ) ?_
  refine xw_if (show xm_Imp g Γ 7 (xi_if (fun x => x = 0) 10 14) from xs_if_ne hΓ dX1_undo_7 (by decide)) (fun c => ?_) (fun c => ?_)
  · rw [if_pos c] at e
    refine xw_psh (v := (.int (1))) (show xm_Imp g Γ 10 (xi_psh (.int (1)) 11) from xs_iconst hΓ dX1_undo_10 (by decide)) ?_
    refine xw_goto (show xm_Imp g Γ 11 (xi_goto 15) from xs_goto hΓ dX1_undo_11 (by decide)) ?_
    exact hB_15 _ _ _ _ _ e
  · rw [if_neg c] at e
    refine xw_psh (v := (.int (0))) (show xm_Imp g Γ 14 (xi_psh (.int (0)) 15) from xs_iconst hΓ dX1_undo_14 (by decide)) ?_
    exact hB_15 _ _ _ _ _ e
noncomputable def F_X1_letter (g : xm_G) (p0 : Nat) (p1 : Int32) (p2 : Int32) (h : xm_H) (bc : Nat) (bs : Nat) (Q : Int32 → xm_H → Prop) (X : xm_X) : Prop :=
 xt_b (xh_is 0 h p0) (fun _ =>
 xt_c bc bs (fun m1 m2 => F_X1_checkQubit g p0 p1 h m1 m2 (fun h3 =>
 xt_b (xh_is 0 h3 p0) (fun _ =>
 xt_c (bc - m1) (bs - m2) (fun m5 m6 => F_X1_checkQubit g p0 p2 h3 m5 m6 (fun h7 =>
 xt_b (xh_fr [(0, 0)] h7 p0) (fun v9 =>
 xt_b v9 (fun a10 =>
 xt_b (xh_fr [(1, 0)] h7 a10) (fun v11 =>
 xt_b v11 (fun a12 =>
 xt_b (xh_fr [(2, 0)] h7 a12) (fun v13 =>
 xt_b v13 (fun a14 =>
 xt_b (xh_ar "StringTableau$Row" h7 a14 p1) (fun v15 =>
 xt_b v15 (fun a16 =>
 xt_b (xh_fi [(3, 0)] h7 a16) (fun v17 =>
 xt_b (xh_fi [(3, 1)] h7 a16) (fun v18 =>
 Q (F_X1_letterOf v17 v18 p2) h7))))))))))) X))) X))
set_option maxHeartbeats 4000000 in
theorem K_X1_letter {g : xm_G} (hG : xm_Gw g) (p0 : Nat) (p1 : Int32) (p2 : Int32) (h : xm_H) (bc : Nat) (bs : Nat) {Q : Int32 → xm_H → Prop} {X : xm_X} (e : F_X1_letter g p0 p1 p2 h bc bs Q X) : xm_Run g M_X1_letter 10 [.ref p0, .int p1, .int p2] h bc bs (fun v h' => ∃ r, v = some (.int r) ∧ Q r h') X := by
  refine xm_Run.of pn_StringTableau (Nat.le_of_ble_eq_true rfl) (fun Γ hΓ => ?_)
  show xm_W g Γ 0 [some (.ref p0), some (.int p1), some (.int p2), none] [] h bc bs
  unfold F_X1_letter at e
  refine xw_ald (show xm_Imp g Γ 0 (xi_ald 0 1) from xs_aload_n hΓ dX1_letter_0) rfl ?_
  refine xw_ild (show xm_Imp g Γ 1 (xi_ild 1 2) from xs_iload_n hΓ dX1_letter_1) rfl ?_
  obtain ⟨_, e0, e⟩ := e
  obtain ⟨m1, m2, ⟨em1, em2⟩, e⟩ := e
  refine xw_tXvu1 (o := (some p0)) (show xm_Imp g Γ 2 (xi_virX g 0 M_X1_checkQubit 9 1 5 X) from xs_invVX hG hΓ k_X1_checkQubit rfl rfl (ci := 0) rfl q1863 q1865 qs37 dX1_letter_2) rfl rfl e0 em1 em2 (K_X1_checkQubit hG p0 p1 _ _ _ e) (fun h3 e => ?_)
  refine xw_ald (show xm_Imp g Γ 5 (xi_ald 0 6) from xs_aload_n hΓ dX1_letter_5) rfl ?_
  refine xw_ild (show xm_Imp g Γ 6 (xi_ild 2 7) from xs_iload_n hΓ dX1_letter_6) rfl ?_
  obtain ⟨_, e0, e⟩ := e
  obtain ⟨m5, m6, ⟨em1, em2⟩, e⟩ := e
  refine xw_tXvu1 (o := (some p0)) (show xm_Imp g Γ 7 (xi_virX g 0 M_X1_checkQubit 9 1 10 X) from xs_invVX hG hΓ k_X1_checkQubit rfl rfl (ci := 0) rfl q1863 q1865 qs37 dX1_letter_7) rfl rfl e0 em1 em2 (K_X1_checkQubit hG p0 p2 _ _ _ e) (fun h7 e => ?_)
  refine xw_ald (show xm_Imp g Γ 10 (xi_ald 0 11) from xs_aload_n hΓ dX1_letter_10) rfl ?_
  obtain ⟨v9, e1, e⟩ := e
  refine xw_gr1 (o := (some p0)) (show xm_Imp g Γ 11 (xi_get 0 0 14) from xs_get hG hΓ (ci := 0) (kf := 0) rfl (Nat.le_of_ble_eq_true rfl) q343 dX1_letter_11) rfl e1 ?_
  obtain ⟨a10, ha10, e⟩ := e
  obtain ⟨v11, e1, e⟩ := e
  refine xw_gr1 (o := v9) (show xm_Imp g Γ 14 (xi_get 1 0 17) from xs_getN hG hΓ (ci := 1) (kf := 0) rfl (Nat.le_of_ble_eq_true rfl) q276 dX1_letter_14) ha10 e1 ?_
  obtain ⟨a12, ha12, e⟩ := e
  obtain ⟨v13, e1, e⟩ := e
  refine xw_gr1 (o := v11) (show xm_Imp g Γ 17 (xi_get 2 0 20) from xs_getN hG hΓ (ci := 2) (kf := 0) rfl (Nat.le_of_ble_eq_true rfl) q271 dX1_letter_17) ha12 e1 ?_
  refine xw_ild (show xm_Imp g Γ 20 (xi_ild 1 21) from xs_iload_n hΓ dX1_letter_20) rfl ?_
  obtain ⟨a14, ha14, e⟩ := e
  obtain ⟨v15, e1, e⟩ := e
  refine xw_haal (o := v13) (show xm_Imp g Γ 21 (xi_aal "StringTableau$Row" 22) from xs_aal hG hΓ dX1_letter_21) ha14 e1 ?_
  refine xw_asto (x := v15) (ls' := [some (.ref p0), some (.int p1), some (.int p2), some (va_rf v15)]) (show xm_Imp g Γ 22 (xi_ast 3 23) from xs_astore_n hΓ dX1_letter_22 (Nat.le_of_ble_eq_true rfl)) rfl ?_
  refine xw_aldo (x := v15) (show xm_Imp g Γ 23 (xi_ald 3 24) from xs_aload_n hΓ dX1_letter_23) rfl ?_
  obtain ⟨a16, ha16, e⟩ := e
  obtain ⟨v17, e1, e⟩ := e
  refine xw_gi1 (o := v15) (show xm_Imp g Γ 24 (xi_get 3 0 27) from xs_getN hG hΓ (ci := 3) (kf := 0) rfl (Nat.le_of_ble_eq_true rfl) q250 dX1_letter_24) ha16 e1 ?_
  refine xw_aldo (x := v15) (show xm_Imp g Γ 27 (xi_ald 3 28) from xs_aload_n hΓ dX1_letter_27) rfl ?_
  obtain ⟨v18, e1, e⟩ := e
  refine xw_gi1 (o := v15) (show xm_Imp g Γ 28 (xi_get 3 1 31) from xs_getN hG hΓ (ci := 3) (kf := 1) rfl (Nat.le_of_ble_eq_true rfl) q255 dX1_letter_28) ha16 e1 ?_
  refine xw_ild (show xm_Imp g Γ 31 (xi_ild 2 32) from xs_iload_n hΓ dX1_letter_31) rfl ?_
  refine xw_sv3 (show xm_Imp g Γ 32 (xi_inv g M_X1_letterOf 2 3 35) from xs_invS hG hΓ k_X1_letterOf rfl q1237 q1238 dX1_letter_32) rfl (fun Q X hQ => K_X1_letterOf hG v17 v18 p2 rfl hQ) ?_
  exact xw_iret (show xm_Imp g Γ 35 (xi_iret .int _) from xs_ireturn hΓ rfl dX1_letter_35) (xn_int _) ⟨_, rfl, e⟩
noncomputable def F_X4_property (g : xm_G) (p0 : Nat) (p1 : Int32) (h : xm_H) : Option (Int32) :=
 (if p1 = 0 then
 xo_b (xh_fi [(3, 0)] h p0) (fun v1 =>
 some v1) else
 (if p1 = 1 then
 xo_b (xh_fi [(3, 1)] h p0) (fun v2 =>
 some v2) else
 (if p1 = 2 then
 xo_b (xh_is 3 h p0) (fun _ =>
 xo_b (F_X4_sign g p0 h) (fun v3 =>
 some v3)) else
 (if p1 = 3 then
 xo_b (xh_is 3 h p0) (fun _ =>
 xo_b (F_X4_weight g p0 h) (fun v4 =>
 some v4)) else
 none))))
set_option maxHeartbeats 4000000 in
theorem K_X4_property {g : xm_G} (hG : xm_Gw g) (p0 : Nat) (p1 : Int32) (h : xm_H) {o : Int32} (e : F_X4_property g p0 p1 h = some o) {Q : xm_P} {X : xm_X} (hQ : Q (some (.int o)) h) : xm_Run g M_X4_property 8 [.ref p0, .int p1] h 0 0 Q X := by
  refine xm_Run.of pn_StringTableau_Row (Nat.le_of_ble_eq_true rfl) (fun Γ hΓ => ?_)
  obtain ⟨P0, hP0, hp⟩ : ∃ P : Int32 → Prop, (∀ o, P o → Q (some (.int o)) h) ∧ P o := ⟨fun o => Q (some (.int o)) h, fun _ h => h, hQ⟩
  clear hQ
  show xm_W g Γ 0 [some (.ref p0), some (.int p1)] [] h 0 0
  unfold F_X4_property at e
  refine xw_ild (show xm_Imp g Γ 0 (xi_ild 1 1) from xs_iload_n hΓ dX4_property_0) rfl ?_
  by_cases c0 : p1 = 0
  · rw [if_pos c0] at e
    refine xw_tsi (show xm_Imp g Γ 1 (xi_tsw 0 3 [32, 37, 42, 47] 52) from xs_tsw hΓ dX4_property_1 (by decide) (by decide) (by decide)) (i := 0) rfl (by rw [c0]; decide) (by decide) ?_
    refine xw_ald (show xm_Imp g Γ 32 (xi_ald 0 33) from xs_aload_n hΓ dX4_property_32) rfl ?_
    obtain ⟨v1, e1, e⟩ := xo_b_s e
    refine xw_gi1 (o := (some p0)) (show xm_Imp g Γ 33 (xi_get 3 0 36) from xs_get hG hΓ (ci := 3) (kf := 0) rfl (Nat.le_of_ble_eq_true rfl) q246 dX4_property_33) rfl e1 ?_
    have hq := hP0 _ (xl_fin e hp)
    exact xw_iret (show xm_Imp g Γ 36 (xi_iret .int _) from xs_ireturn hΓ rfl dX4_property_36) (xn_int _) hq
  rw [if_neg c0] at e
  by_cases c1 : p1 = 1
  · rw [if_pos c1] at e
    refine xw_tsi (show xm_Imp g Γ 1 (xi_tsw 0 3 [32, 37, 42, 47] 52) from xs_tsw hΓ dX4_property_1 (by decide) (by decide) (by decide)) (i := 1) rfl (by rw [c1]; decide) (by decide) ?_
    refine xw_ald (show xm_Imp g Γ 37 (xi_ald 0 38) from xs_aload_n hΓ dX4_property_37) rfl ?_
    obtain ⟨v2, e1, e⟩ := xo_b_s e
    refine xw_gi1 (o := (some p0)) (show xm_Imp g Γ 38 (xi_get 3 1 41) from xs_get hG hΓ (ci := 3) (kf := 1) rfl (Nat.le_of_ble_eq_true rfl) q251 dX4_property_38) rfl e1 ?_
    have hq := hP0 _ (xl_fin e hp)
    exact xw_iret (show xm_Imp g Γ 41 (xi_iret .int _) from xs_ireturn hΓ rfl dX4_property_41) (xn_int _) hq
  rw [if_neg c1] at e
  by_cases c2 : p1 = 2
  · rw [if_pos c2] at e
    refine xw_tsi (show xm_Imp g Γ 1 (xi_tsw 0 3 [32, 37, 42, 47] 52) from xs_tsw hΓ dX4_property_1 (by decide) (by decide) (by decide)) (i := 2) rfl (by rw [c2]; decide) (by decide) ?_
    refine xw_ald (show xm_Imp g Γ 42 (xi_ald 0 43) from xs_aload_n hΓ dX4_property_42) rfl ?_
    obtain ⟨_, e0, e⟩ := xo_b_s e
    obtain ⟨v3, e1, e⟩ := xo_b_s e
    refine xw_hv0 (o := (some p0)) (show xm_Imp g Γ 43 (xi_vir g 3 M_X4_sign 1 0 46) from xs_invV hG hΓ k_X4_sign rfl (ci := 3) rfl q1982 q1791 q1792 dX4_property_43) rfl rfl e0 (fun Q X hQ => K_X4_sign hG p0 _ e1 hQ) ?_
    have hq := hP0 _ (xl_fin e hp)
    exact xw_iret (show xm_Imp g Γ 46 (xi_iret .int _) from xs_ireturn hΓ rfl dX4_property_46) (xn_int _) hq
  rw [if_neg c2] at e
  by_cases c3 : p1 = 3
  · rw [if_pos c3] at e
    refine xw_tsi (show xm_Imp g Γ 1 (xi_tsw 0 3 [32, 37, 42, 47] 52) from xs_tsw hΓ dX4_property_1 (by decide) (by decide) (by decide)) (i := 3) rfl (by rw [c3]; decide) (by decide) ?_
    refine xw_ald (show xm_Imp g Γ 47 (xi_ald 0 48) from xs_aload_n hΓ dX4_property_47) rfl ?_
    obtain ⟨_, e0, e⟩ := xo_b_s e
    obtain ⟨v4, e1, e⟩ := xo_b_s e
    refine xw_hv0 (o := (some p0)) (show xm_Imp g Γ 48 (xi_vir g 3 M_X4_weight 2 0 51) from xs_invV hG hΓ k_X4_weight rfl (ci := 3) rfl q1983 q1660 q1661 dX4_property_48) rfl rfl e0 (fun Q X hQ => K_X4_weight hG p0 _ e1 hQ) ?_
    have hq := hP0 _ (xl_fin e hp)
    exact xw_iret (show xm_Imp g Γ 51 (xi_iret .int _) from xs_ireturn hΓ rfl dX4_property_51) (xn_int _) hq
  rw [if_neg c3] at e
  refine xw_tsd (show xm_Imp g Γ 1 (xi_tsw 0 3 [32, 37, 42, 47] 52) from xs_tsw hΓ dX4_property_1 (by decide) (by decide) (by decide)) (xm_tsd p1 [(0 : Int32), (1 : Int32), (2 : Int32), (3 : Int32)] (by decide) (And.intro c0 (And.intro c1 (And.intro c2 (And.intro c3 (trivial)))))) (by decide) ?_
  cases e
noncomputable def F_X1_propertyOf (g : xm_G) (p0 : Nat) (p1 : Option Nat) (p2 : Int32) (p3 : Int32) (h : xm_H) (bc : Nat) (bs : Nat) (Q : Int32 → xm_H → Prop) (X : xm_X) : Prop :=
 xt_b (xh_is 0 h p0) (fun _ =>
 xt_c bc bs (fun m1 m2 => F_X1_checkQubit g p0 p2 h m1 m2 (fun h3 =>
 xt_c (bc - m1) (bs - m2) (fun m5 m6 => F_X1_checkIndex g (F_X1_inRange p3 0 2) h3 m5 m6 (fun h7 =>
 xt_b p1 (fun a9 =>
 xt_b (xh_fr [(2, 0)] h7 a9) (fun v10 =>
 xt_b v10 (fun a11 =>
 xt_b (xh_ar "StringTableau$Row" h7 a11 p2) (fun v12 =>
 xt_b v12 (fun a13 =>
 xt_b (xh_is 3 h7 a13) (fun _ =>
 xt_b (F_X4_property g a13 p3 h7) (fun v14 =>
 Q v14 h7)))))))) X)) X))
set_option maxHeartbeats 4000000 in
theorem K_X1_propertyOf {g : xm_G} (hG : xm_Gw g) (p0 : Nat) (p1 : Option Nat) (p2 : Int32) (p3 : Int32) (h : xm_H) (bc : Nat) (bs : Nat) {Q : Int32 → xm_H → Prop} {X : xm_X} (e : F_X1_propertyOf g p0 p1 p2 p3 h bc bs Q X) : xm_Run g M_X1_propertyOf 10 [.ref p0, va_rf p1, .int p2, .int p3] h bc bs (fun v h' => ∃ r, v = some (.int r) ∧ Q r h') X := by
  refine xm_Run.of2 (ls := [some (.ref p0), some (va_rf p1), some (.int p2), some (.int p3)]) pn_StringTableau (by cases p1 <;> exact Nat.le_of_ble_eq_true rfl) (by cases p1 <;> rfl) (fun Γ hΓ => ?_)
  show xm_W g Γ 0 [some (.ref p0), some (va_rf p1), some (.int p2), some (.int p3)] [] h bc bs
  unfold F_X1_propertyOf at e
  refine xw_ald (show xm_Imp g Γ 0 (xi_ald 0 1) from xs_aload_n hΓ dX1_propertyOf_0) rfl ?_
  refine xw_ild (show xm_Imp g Γ 1 (xi_ild 2 2) from xs_iload_n hΓ dX1_propertyOf_1) rfl ?_
  obtain ⟨_, e0, e⟩ := e
  obtain ⟨m1, m2, ⟨em1, em2⟩, e⟩ := e
  refine xw_tXvu1 (o := (some p0)) (show xm_Imp g Γ 2 (xi_virX g 0 M_X1_checkQubit 9 1 5 X) from xs_invVX hG hΓ k_X1_checkQubit rfl rfl (ci := 0) rfl q1863 q1865 qs37 dX1_propertyOf_2) rfl rfl e0 em1 em2 (K_X1_checkQubit hG p0 p2 _ _ _ e) (fun h3 e => ?_)
  refine xw_ild (show xm_Imp g Γ 5 (xi_ild 3 6) from xs_iload_n hΓ dX1_propertyOf_5) rfl ?_
  refine xw_psh (v := (.int (0))) (show xm_Imp g Γ 6 (xi_psh (.int (0)) 7) from xs_iconst hΓ dX1_propertyOf_6 (by decide)) ?_
  refine xw_psh (v := (.int (2))) (show xm_Imp g Γ 7 (xi_psh (.int (2)) 8) from xs_iconst hΓ dX1_propertyOf_7 (by decide)) ?_
  refine xw_sv3 (show xm_Imp g Γ 8 (xi_inv g M_X1_inRange 1 3 11) from xs_invS hG hΓ k_X1_inRange rfl q387 q388 dX1_propertyOf_8) rfl (fun Q X hQ => K_X1_inRange hG p3 0 2 rfl hQ) ?_
  obtain ⟨m5, m6, ⟨em1, em2⟩, e⟩ := e
  refine xw_tXsu1 (show xm_Imp g Γ 11 (xi_invX g M_X1_checkIndex 8 1 14 X) from xs_invSX hG hΓ k_X1_checkIndex rfl rfl q1837 q1838 dX1_propertyOf_11) rfl em1 em2 (K_X1_checkIndex hG (F_X1_inRange p3 0 2) _ _ _ e) (fun h7 e => ?_)
  refine xw_aldo (x := p1) (show xm_Imp g Γ 14 (xi_ald 1 15) from xs_aload_n hΓ dX1_propertyOf_14) rfl ?_
  obtain ⟨a9, ha9, e⟩ := e
  obtain ⟨v10, e1, e⟩ := e
  refine xw_gr1 (o := p1) (show xm_Imp g Γ 15 (xi_get 2 0 18) from xs_getN hG hΓ (ci := 2) (kf := 0) rfl (Nat.le_of_ble_eq_true rfl) q271 dX1_propertyOf_15) ha9 e1 ?_
  refine xw_ild (show xm_Imp g Γ 18 (xi_ild 2 19) from xs_iload_n hΓ dX1_propertyOf_18) rfl ?_
  obtain ⟨a11, ha11, e⟩ := e
  obtain ⟨v12, e1, e⟩ := e
  refine xw_haal (o := v10) (show xm_Imp g Γ 19 (xi_aal "StringTableau$Row" 20) from xs_aal hG hΓ dX1_propertyOf_19) ha11 e1 ?_
  refine xw_ild (show xm_Imp g Γ 20 (xi_ild 3 21) from xs_iload_n hΓ dX1_propertyOf_20) rfl ?_
  obtain ⟨a13, ha13, e⟩ := e
  obtain ⟨_, e0, e⟩ := e
  obtain ⟨v14, e1, e⟩ := e
  refine xw_hv1 (o := v12) (show xm_Imp g Γ 21 (xi_vir g 3 M_X4_property 8 1 24) from xs_invV hG hΓ k_X4_property rfl (ci := 3) rfl q1978 q1979 q1980 dX1_propertyOf_21) (by simp [xm_stk, xv_cat, xc_int, xc_long, xc_float, xc_double, xc_ref]) ha13 e0 (fun Q X hQ => K_X4_property hG a13 p3 _ e1 hQ) ?_
  exact xw_iret (show xm_Imp g Γ 24 (xi_iret .int _) from xs_ireturn hΓ rfl dX1_propertyOf_24) (xn_int _) ⟨_, rfl, e⟩
noncomputable def F_X1_row (g : xm_G) (p0 : Nat) (p1 : Int32) (p2 : Int32) (h : xm_H) (bc : Nat) (bs : Nat) (Q : Int32 → xm_H → Prop) (X : xm_X) : Prop :=
 xt_b (xh_fr [(0, 0)] h p0) (fun v1 =>
 xt_b v1 (fun a2 =>
 xt_b (xh_fr [(1, 0)] h a2) (fun v3 =>
 xt_b (xh_is 0 h p0) (fun _ =>
 xt_c bc bs (fun m4 m5 => F_X1_propertyOf g p0 v3 p1 p2 h m4 m5 (fun v7 h6 =>
 Q v7 h6) X)))))
set_option maxHeartbeats 4000000 in
theorem K_X1_row {g : xm_G} (hG : xm_Gw g) (p0 : Nat) (p1 : Int32) (p2 : Int32) (h : xm_H) (bc : Nat) (bs : Nat) {Q : Int32 → xm_H → Prop} {X : xm_X} (e : F_X1_row g p0 p1 p2 h bc bs Q X) : xm_Run g M_X1_row 11 [.ref p0, .int p1, .int p2] h bc bs (fun v h' => ∃ r, v = some (.int r) ∧ Q r h') X := by
  refine xm_Run.of pn_StringTableau (Nat.le_of_ble_eq_true rfl) (fun Γ hΓ => ?_)
  show xm_W g Γ 0 [some (.ref p0), some (.int p1), some (.int p2)] [] h bc bs
  unfold F_X1_row at e
  refine xw_ald (show xm_Imp g Γ 0 (xi_ald 0 1) from xs_aload_n hΓ dX1_row_0) rfl ?_
  refine xw_ald (show xm_Imp g Γ 1 (xi_ald 0 2) from xs_aload_n hΓ dX1_row_1) rfl ?_
  obtain ⟨v1, e1, e⟩ := e
  refine xw_gr1 (o := (some p0)) (show xm_Imp g Γ 2 (xi_get 0 0 5) from xs_get hG hΓ (ci := 0) (kf := 0) rfl (Nat.le_of_ble_eq_true rfl) q343 dX1_row_2) rfl e1 ?_
  obtain ⟨a2, ha2, e⟩ := e
  obtain ⟨v3, e1, e⟩ := e
  refine xw_gr1 (o := v1) (show xm_Imp g Γ 5 (xi_get 1 0 8) from xs_getN hG hΓ (ci := 1) (kf := 0) rfl (Nat.le_of_ble_eq_true rfl) q276 dX1_row_5) ha2 e1 ?_
  refine xw_ild (show xm_Imp g Γ 8 (xi_ild 1 9) from xs_iload_n hΓ dX1_row_8) rfl ?_
  refine xw_ild (show xm_Imp g Γ 9 (xi_ild 2 10) from xs_iload_n hΓ dX1_row_9) rfl ?_
  obtain ⟨_, e0, e⟩ := e
  obtain ⟨m4, m5, ⟨em1, em2⟩, e⟩ := e
  refine xw_tXvi3 (o := (some p0)) (show xm_Imp g Γ 10 (xi_virX g 0 M_X1_propertyOf 10 3 13 X) from xs_invVX hG hΓ k_X1_propertyOf rfl rfl (ci := 0) rfl q1974 q1976 qs40 dX1_row_10) rfl rfl e0 em1 em2 (K_X1_propertyOf hG p0 v3 p1 p2 _ _ _ e) (fun v7 h6 e => ?_)
  exact xw_iret (show xm_Imp g Γ 13 (xi_iret .int _) from xs_ireturn hΓ rfl dX1_row_13) (xn_int _) ⟨_, rfl, e⟩
noncomputable def F_X1_canonical (g : xm_G) (p0 : Nat) (p1 : Int32) (p2 : Int32) (h : xm_H) (bc : Nat) (bs : Nat) (Q : Int32 → xm_H → Prop) (X : xm_X) : Prop :=
 xt_b (xh_fr [(0, 0)] h p0) (fun v1 =>
 xt_b v1 (fun a2 =>
 xt_b (xh_fr [(1, 0)] h a2) (fun v3 =>
 xt_b v3 (fun a4 =>
 xt_b (xh_is 2 h a4) (fun _ =>
 xt_c bc bs (fun m5 m6 => F_X3_canonical g a4 h m5 m6 (fun v8 h7 =>
 xt_b (xh_is 0 h7 p0) (fun _ =>
 xt_c (bc - m5) (bs - m6) (fun m9 m10 => F_X1_propertyOf g p0 v8 p1 p2 h7 m9 m10 (fun v12 h11 =>
 Q v12 h11) X)))))))))
set_option maxHeartbeats 4000000 in
theorem K_X1_canonical {g : xm_G} (hG : xm_Gw g) (p0 : Nat) (p1 : Int32) (p2 : Int32) (h : xm_H) (bc : Nat) (bs : Nat) {Q : Int32 → xm_H → Prop} {X : xm_X} (e : F_X1_canonical g p0 p1 p2 h bc bs Q X) : xm_Run g M_X1_canonical 11 [.ref p0, .int p1, .int p2] h bc bs (fun v h' => ∃ r, v = some (.int r) ∧ Q r h') X := by
  refine xm_Run.of pn_StringTableau (Nat.le_of_ble_eq_true rfl) (fun Γ hΓ => ?_)
  show xm_W g Γ 0 [some (.ref p0), some (.int p1), some (.int p2)] [] h bc bs
  unfold F_X1_canonical at e
  refine xw_ald (show xm_Imp g Γ 0 (xi_ald 0 1) from xs_aload_n hΓ dX1_canonical_0) rfl ?_
  refine xw_ald (show xm_Imp g Γ 1 (xi_ald 0 2) from xs_aload_n hΓ dX1_canonical_1) rfl ?_
  obtain ⟨v1, e1, e⟩ := e
  refine xw_gr1 (o := (some p0)) (show xm_Imp g Γ 2 (xi_get 0 0 5) from xs_get hG hΓ (ci := 0) (kf := 0) rfl (Nat.le_of_ble_eq_true rfl) q343 dX1_canonical_2) rfl e1 ?_
  obtain ⟨a2, ha2, e⟩ := e
  obtain ⟨v3, e1, e⟩ := e
  refine xw_gr1 (o := v1) (show xm_Imp g Γ 5 (xi_get 1 0 8) from xs_getN hG hΓ (ci := 1) (kf := 0) rfl (Nat.le_of_ble_eq_true rfl) q276 dX1_canonical_5) ha2 e1 ?_
  obtain ⟨a4, ha4, e⟩ := e
  obtain ⟨_, e0, e⟩ := e
  obtain ⟨m5, m6, ⟨em1, em2⟩, e⟩ := e
  refine xw_tvr0 (o := v3) (show xm_Imp g Γ 8 (xi_vir g 2 M_X3_canonical 6 0 11) from xs_invV hG hΓ k_X3_canonical rfl (ci := 2) rfl q1602 q1603 q1604 dX1_canonical_8) (by simp [xm_stk, xv_cat, xc_int, xc_long, xc_float, xc_double, xc_ref]) ha4 e0 em1 em2 (K_X3_canonical hG a4 _ _ _ e) (fun v8 h7 e => ?_)
  refine xw_ild (show xm_Imp g Γ 11 (xi_ild 1 12) from xs_iload_n hΓ dX1_canonical_11) rfl ?_
  refine xw_ild (show xm_Imp g Γ 12 (xi_ild 2 13) from xs_iload_n hΓ dX1_canonical_12) rfl ?_
  obtain ⟨_, e0, e⟩ := e
  obtain ⟨m9, m10, ⟨em1, em2⟩, e⟩ := e
  refine xw_tXvi3 (o := (some p0)) (show xm_Imp g Γ 13 (xi_virX g 0 M_X1_propertyOf 10 3 16 X) from xs_invVX hG hΓ k_X1_propertyOf rfl rfl (ci := 0) rfl q1974 q1976 qs40 dX1_canonical_13) rfl rfl e0 em1 em2 (K_X1_propertyOf hG p0 v8 p1 p2 _ _ _ e) (fun v12 h11 e => ?_)
  exact xw_iret (show xm_Imp g Γ 16 (xi_iret .int _) from xs_ireturn hΓ rfl dX1_canonical_16) (xn_int _) ⟨_, rfl, e⟩
noncomputable def B_X1_measured_36 (g : xm_G) (l0 : Nat) (l1 : Int32) (l2 : Int32) (s0 : Int32) (h : xm_H) (bc : Nat) (bs : Nat) (Q : Int32 → xm_H → Prop) (X : xm_X) : Prop :=
 xt_c bc bs (fun m6 m7 => F_X1_checkIndex g s0 h m6 m7 (fun h8 =>
 xt_b (xh_fr [(0, 0)] h8 l0) (fun v10 =>
 xt_b v10 (fun a11 =>
 xt_b (xh_fr [(1, 1)] h8 a11) (fun v12 =>
 xt_b v12 (fun a13 =>
 xt_b (xh_is 12 h8 a13) (fun _ =>
 xt_b (F_J2_get g a13 l1 h8) (fun v14 =>
 xt_b (xh_cast "StringTableau$Record" h8 v14) (fun _ =>
 (if l2 = 0 then
 xt_b v14 (fun a15 =>
 xt_b (xh_fi [(9, 0)] h8 a15) (fun v16 =>
 Q v16 h8)) else
 xt_b v14 (fun a17 =>
 xt_b (xh_fi [(9, 1)] h8 a17) (fun v18 =>
 (if v18 = 0 then
 Q 0 h8 else
 Q 1 h8)))))))))))) X)
noncomputable def F_X1_measured (g : xm_G) (p0 : Nat) (p1 : Int32) (p2 : Int32) (h : xm_H) (bc : Nat) (bs : Nat) (Q : Int32 → xm_H → Prop) (X : xm_X) : Prop :=
 xt_b (xh_fr [(0, 0)] h p0) (fun v1 =>
 xt_b v1 (fun a2 =>
 xt_b (xh_fr [(1, 1)] h a2) (fun v3 =>
 xt_b v3 (fun a4 =>
 xt_b (xh_is 12 h a4) (fun _ =>
 xt_b (F_J2_size g a4 h) (fun v5 =>
 B_X1_measured_36 g p0 p1 p2 (if (F_X1_inRange p1 0 (v5 - 1)) = 0 then 0 else (if (F_X1_inRange p2 0 1) = 0 then 0 else 1)) h bc bs Q X))))))
set_option maxHeartbeats 4000000 in
theorem K_X1_measured {g : xm_G} (hG : xm_Gw g) (p0 : Nat) (p1 : Int32) (p2 : Int32) (h : xm_H) (bc : Nat) (bs : Nat) {Q : Int32 → xm_H → Prop} {X : xm_X} (e : F_X1_measured g p0 p1 p2 h bc bs Q X) : xm_Run g M_X1_measured 11 [.ref p0, .int p1, .int p2] h bc bs (fun v h' => ∃ r, v = some (.int r) ∧ Q r h') X := by
  refine xm_Run.of pn_StringTableau (Nat.le_of_ble_eq_true rfl) (fun Γ hΓ => ?_)
  show xm_W g Γ 0 [some (.ref p0), some (.int p1), some (.int p2), none] [] h bc bs
  have hB_36 : ∀ (l0 : Nat) (l1 : Int32) (l2 : Int32) (s0 : Int32) (h : xm_H) (bc : Nat) (bs : Nat), B_X1_measured_36 g l0 l1 l2 s0 h bc bs Q X → xm_W g Γ 36 [some (.ref l0), some (.int l1), some (.int l2), none] [.int s0] h bc bs := by
    intro l0 l1 l2 s0 h bc bs e
    unfold B_X1_measured_36 at e
    obtain ⟨m6, m7, ⟨em1, em2⟩, e⟩ := e
    refine xw_tXsu1 (show xm_Imp g Γ 36 (xi_invX g M_X1_checkIndex 8 1 39 X) from xs_invSX hG hΓ k_X1_checkIndex rfl rfl q1837 q1838 dX1_measured_36) rfl em1 em2 (K_X1_checkIndex hG s0 _ _ _ e) (fun h8 e => ?_)
    refine xw_ald (show xm_Imp g Γ 39 (xi_ald 0 40) from xs_aload_n hΓ dX1_measured_39) rfl ?_
    obtain ⟨v10, e1, e⟩ := e
    refine xw_gr1 (o := (some l0)) (show xm_Imp g Γ 40 (xi_get 0 0 43) from xs_get hG hΓ (ci := 0) (kf := 0) rfl (Nat.le_of_ble_eq_true rfl) q343 dX1_measured_40) rfl e1 ?_
    obtain ⟨a11, ha11, e⟩ := e
    obtain ⟨v12, e1, e⟩ := e
    refine xw_gr1 (o := v10) (show xm_Imp g Γ 43 (xi_get 1 1 46) from xs_getN hG hΓ (ci := 1) (kf := 1) rfl (Nat.le_of_ble_eq_true rfl) q278 dX1_measured_43) ha11 e1 ?_
    refine xw_ild (show xm_Imp g Γ 46 (xi_ild 1 47) from xs_iload_n hΓ dX1_measured_46) rfl ?_
    obtain ⟨a13, ha13, e⟩ := e
    obtain ⟨_, e0, e⟩ := e
    obtain ⟨v14, e1, e⟩ := e
    refine xw_hv1 (o := v12) (show xm_Imp g Γ 47 (xi_vir g 12 M_J2_get 10 1 52) from xs_invF hG hΓ k_J2_get rfl (ci := 12) rfl q1148 q1153 q1151 ⟨by decide, by decide⟩ (by decide +kernel) q1150 q1149 q1154 q1152 q903 dX1_measured_47) (by simp [xm_stk, xv_cat, xc_int, xc_long, xc_float, xc_double, xc_ref]) ha13 e0 (fun Q X hQ => K_J2_get hG a13 l1 _ e1 hQ) ?_
    obtain ⟨_, e1, e⟩ := e
    refine xw_cast (o := v14) (show xm_Imp g Γ 52 (xi_cast "StringTableau$Record" 55) from xs_cast hG hΓ (xm_in 9 rfl) q1164 dX1_measured_52) e1 ?_
    refine xw_asto (x := v14) (ls' := [some (.ref l0), some (.int l1), some (.int l2), some (va_rf v14)]) (show xm_Imp g Γ 55 (xi_ast 3 56) from xs_astore_n hΓ dX1_measured_55 (Nat.le_of_ble_eq_true rfl)) rfl ?_
    refine xw_ild (show xm_Imp g Γ 56 (xi_ild 2 57) from xs_iload_n hΓ dX1_measured_56) rfl ?_
    refine xw_if (show xm_Imp g Γ 57 (xi_if (fun x => x = 0) 60 67) from xs_if_ne hΓ dX1_measured_57 (by decide)) (fun c => ?_) (fun c => ?_)
    · rw [if_pos c] at e
      refine xw_aldo (x := v14) (show xm_Imp g Γ 60 (xi_ald 3 61) from xs_aload_n hΓ dX1_measured_60) rfl ?_
      obtain ⟨a15, ha15, e⟩ := e
      obtain ⟨v16, e1, e⟩ := e
      refine xw_gi1 (o := v14) (show xm_Imp g Γ 61 (xi_get 9 0 64) from xs_getN hG hΓ (ci := 9) (kf := 0) rfl (Nat.le_of_ble_eq_true rfl) q1583 dX1_measured_61) ha15 e1 ?_
      refine xw_goto (show xm_Imp g Γ 64 (xi_goto 79) from xs_goto hΓ dX1_measured_64 (by decide)) ?_
      exact xw_iret (show xm_Imp g Γ 79 (xi_iret .int _) from xs_ireturn hΓ rfl dX1_measured_79) (xn_int _) ⟨_, rfl, e⟩
    · rw [if_neg c] at e
      refine xw_aldo (x := v14) (show xm_Imp g Γ 67 (xi_ald 3 68) from xs_aload_n hΓ dX1_measured_67) rfl ?_
      obtain ⟨a17, ha17, e⟩ := e
      obtain ⟨v18, e1, e⟩ := e
      refine xw_gi1 (o := v14) (show xm_Imp g Γ 68 (xi_get 9 1 71) from xs_getN hG hΓ (ci := 9) (kf := 1) rfl (Nat.le_of_ble_eq_true rfl) q1585 dX1_measured_68) ha17 e1 ?_
      refine xw_if (show xm_Imp g Γ 71 (xi_if (fun x => x = 0) 78 74) from xs_if_eq hΓ dX1_measured_71 (by decide)) (fun c => ?_) (fun c => ?_)
      · rw [if_pos c] at e
        refine xw_psh (v := (.int (0))) (show xm_Imp g Γ 78 (xi_psh (.int (0)) 79) from xs_iconst hΓ dX1_measured_78 (by decide)) ?_
        exact xw_iret (show xm_Imp g Γ 79 (xi_iret .int _) from xs_ireturn hΓ rfl dX1_measured_79) (xn_int _) ⟨_, rfl, e⟩
      · rw [if_neg c] at e
        refine xw_psh (v := (.int (1))) (show xm_Imp g Γ 74 (xi_psh (.int (1)) 75) from xs_iconst hΓ dX1_measured_74 (by decide)) ?_
        refine xw_goto (show xm_Imp g Γ 75 (xi_goto 79) from xs_goto hΓ dX1_measured_75 (by decide)) ?_
        exact xw_iret (show xm_Imp g Γ 79 (xi_iret .int _) from xs_ireturn hΓ rfl dX1_measured_79) (xn_int _) ⟨_, rfl, e⟩
  unfold F_X1_measured at e
  refine xw_ild (show xm_Imp g Γ 0 (xi_ild 1 1) from xs_iload_n hΓ dX1_measured_0) rfl ?_
  refine xw_psh (v := (.int (0))) (show xm_Imp g Γ 1 (xi_psh (.int (0)) 2) from xs_iconst hΓ dX1_measured_1 (by decide)) ?_
  refine xw_ald (show xm_Imp g Γ 2 (xi_ald 0 3) from xs_aload_n hΓ dX1_measured_2) rfl ?_
  obtain ⟨v1, e1, e⟩ := e
  refine xw_gr1 (o := (some p0)) (show xm_Imp g Γ 3 (xi_get 0 0 6) from xs_get hG hΓ (ci := 0) (kf := 0) rfl (Nat.le_of_ble_eq_true rfl) q343 dX1_measured_3) rfl e1 ?_
  obtain ⟨a2, ha2, e⟩ := e
  obtain ⟨v3, e1, e⟩ := e
  refine xw_gr1 (o := v1) (show xm_Imp g Γ 6 (xi_get 1 1 9) from xs_getN hG hΓ (ci := 1) (kf := 1) rfl (Nat.le_of_ble_eq_true rfl) q278 dX1_measured_6) ha2 e1 ?_
  obtain ⟨a4, ha4, e⟩ := e
  obtain ⟨_, e0, e⟩ := e
  obtain ⟨v5, e1, e⟩ := e
  refine xw_hv0 (o := v3) (show xm_Imp g Γ 9 (xi_vir g 12 M_J2_size 1 0 14) from xs_invF hG hΓ k_J2_size rfl (ci := 12) rfl q1126 q906 q904 ⟨by decide, by decide⟩ (by decide +kernel) q902 q901 q907 q905 q903 dX1_measured_9) (by simp [xm_stk, xv_cat, xc_int, xc_long, xc_float, xc_double, xc_ref]) ha4 e0 (fun Q X hQ => K_J2_size hG a4 _ e1 hQ) ?_
  refine xw_psh (v := (.int (1))) (show xm_Imp g Γ 14 (xi_psh (.int (1)) 15) from xs_iconst hΓ dX1_measured_14 (by decide)) ?_
  refine xw_ii (show xm_Imp g Γ 15 (xi_ii (fun x y => x - y) 16) from xs_isub hΓ dX1_measured_15) ?_
  refine xw_sv3 (show xm_Imp g Γ 16 (xi_inv g M_X1_inRange 1 3 19) from xs_invS hG hΓ k_X1_inRange rfl q387 q388 dX1_measured_16) rfl (fun Q X hQ => K_X1_inRange hG p1 0 (v5 - 1) rfl hQ) ?_
  refine xw_if (show xm_Imp g Γ 19 (xi_if (fun x => x = 0) 35 22) from xs_if_eq hΓ dX1_measured_19 (by decide)) (fun c => ?_) (fun c => ?_)
  · rw [if_pos c] at e
    refine xw_psh (v := (.int (0))) (show xm_Imp g Γ 35 (xi_psh (.int (0)) 36) from xs_iconst hΓ dX1_measured_35 (by decide)) ?_
    exact hB_36 _ _ _ _ _ _ _ e
  · rw [if_neg c] at e
    refine xw_ild (show xm_Imp g Γ 22 (xi_ild 2 23) from xs_iload_n hΓ dX1_measured_22) rfl ?_
    refine xw_psh (v := (.int (0))) (show xm_Imp g Γ 23 (xi_psh (.int (0)) 24) from xs_iconst hΓ dX1_measured_23 (by decide)) ?_
    refine xw_psh (v := (.int (1))) (show xm_Imp g Γ 24 (xi_psh (.int (1)) 25) from xs_iconst hΓ dX1_measured_24 (by decide)) ?_
    refine xw_sv3 (show xm_Imp g Γ 25 (xi_inv g M_X1_inRange 1 3 28) from xs_invS hG hΓ k_X1_inRange rfl q387 q388 dX1_measured_25) rfl (fun Q X hQ => K_X1_inRange hG p2 0 1 rfl hQ) ?_
    refine xw_if (show xm_Imp g Γ 28 (xi_if (fun x => x = 0) 35 31) from xs_if_eq hΓ dX1_measured_28 (by decide)) (fun c => ?_) (fun c => ?_)
    · rw [if_pos c] at e
      refine xw_psh (v := (.int (0))) (show xm_Imp g Γ 35 (xi_psh (.int (0)) 36) from xs_iconst hΓ dX1_measured_35 (by decide)) ?_
      exact hB_36 _ _ _ _ _ _ _ e
    · rw [if_neg c] at e
      refine xw_psh (v := (.int (1))) (show xm_Imp g Γ 31 (xi_psh (.int (1)) 32) from xs_iconst hΓ dX1_measured_31 (by decide)) ?_
      refine xw_goto (show xm_Imp g Γ 32 (xi_goto 36) from xs_goto hΓ dX1_measured_32 (by decide)) ?_
      exact hB_36 _ _ _ _ _ _ _ e
noncomputable def F_X1_commute (g : xm_G) (p0 : Nat) (p1 : Int32) (p2 : Int32) (p3 : Int32) (p4 : Int32) (h : xm_H) (bc : Nat) (bs : Nat) (Q : Int32 → xm_H → Prop) (X : xm_X) : Prop :=
 xt_b (xh_is 0 h p0) (fun _ =>
 xt_c bc bs (fun m1 m2 => F_X1_checkMasks g p0 p1 p2 h m1 m2 (fun h3 =>
 xt_b (xh_is 0 h3 p0) (fun _ =>
 xt_c (bc - m1) (bs - m2) (fun m5 m6 => F_X1_checkMasks g p0 p3 p4 h3 m5 m6 (fun h7 =>
 Q (F_X1_doCommute p1 p2 p3 p4) h7) X))) X))
set_option maxHeartbeats 4000000 in
theorem K_X1_commute {g : xm_G} (hG : xm_Gw g) (p0 : Nat) (p1 : Int32) (p2 : Int32) (p3 : Int32) (p4 : Int32) (h : xm_H) (bc : Nat) (bs : Nat) {Q : Int32 → xm_H → Prop} {X : xm_X} (e : F_X1_commute g p0 p1 p2 p3 p4 h bc bs Q X) : xm_Run g M_X1_commute 10 [.ref p0, .int p1, .int p2, .int p3, .int p4] h bc bs (fun v h' => ∃ r, v = some (.int r) ∧ Q r h') X := by
  refine xm_Run.of pn_StringTableau (Nat.le_of_ble_eq_true rfl) (fun Γ hΓ => ?_)
  show xm_W g Γ 0 [some (.ref p0), some (.int p1), some (.int p2), some (.int p3), some (.int p4)] [] h bc bs
  unfold F_X1_commute at e
  refine xw_ald (show xm_Imp g Γ 0 (xi_ald 0 1) from xs_aload_n hΓ dX1_commute_0) rfl ?_
  refine xw_ild (show xm_Imp g Γ 1 (xi_ild 1 2) from xs_iload_n hΓ dX1_commute_1) rfl ?_
  refine xw_ild (show xm_Imp g Γ 2 (xi_ild 2 3) from xs_iload_n hΓ dX1_commute_2) rfl ?_
  obtain ⟨_, e0, e⟩ := e
  obtain ⟨m1, m2, ⟨em1, em2⟩, e⟩ := e
  refine xw_tXvu2 (o := (some p0)) (show xm_Imp g Γ 3 (xi_virX g 0 M_X1_checkMasks 9 2 6 X) from xs_invVX hG hΓ k_X1_checkMasks rfl rfl (ci := 0) rfl q1885 q1887 qs38 dX1_commute_3) rfl rfl e0 em1 em2 (K_X1_checkMasks hG p0 p1 p2 _ _ _ e) (fun h3 e => ?_)
  refine xw_ald (show xm_Imp g Γ 6 (xi_ald 0 7) from xs_aload_n hΓ dX1_commute_6) rfl ?_
  refine xw_ild (show xm_Imp g Γ 7 (xi_ild 3 8) from xs_iload_n hΓ dX1_commute_7) rfl ?_
  refine xw_ild (show xm_Imp g Γ 8 (xi_ild 4 10) from xs_iload hΓ dX1_commute_8) rfl ?_
  obtain ⟨_, e0, e⟩ := e
  obtain ⟨m5, m6, ⟨em1, em2⟩, e⟩ := e
  refine xw_tXvu2 (o := (some p0)) (show xm_Imp g Γ 10 (xi_virX g 0 M_X1_checkMasks 9 2 13 X) from xs_invVX hG hΓ k_X1_checkMasks rfl rfl (ci := 0) rfl q1885 q1887 qs38 dX1_commute_10) rfl rfl e0 em1 em2 (K_X1_checkMasks hG p0 p3 p4 _ _ _ e) (fun h7 e => ?_)
  refine xw_ild (show xm_Imp g Γ 13 (xi_ild 1 14) from xs_iload_n hΓ dX1_commute_13) rfl ?_
  refine xw_ild (show xm_Imp g Γ 14 (xi_ild 2 15) from xs_iload_n hΓ dX1_commute_14) rfl ?_
  refine xw_ild (show xm_Imp g Γ 15 (xi_ild 3 16) from xs_iload_n hΓ dX1_commute_15) rfl ?_
  refine xw_ild (show xm_Imp g Γ 16 (xi_ild 4 18) from xs_iload hΓ dX1_commute_16) rfl ?_
  refine xw_sv4 (show xm_Imp g Γ 18 (xi_inv g M_X1_doCommute 2 4 21) from xs_invS hG hΓ k_X1_doCommute rfl q2007 q1207 dX1_commute_18) rfl (fun Q X hQ => K_X1_doCommute hG p1 p2 p3 p4 rfl hQ) ?_
  exact xw_iret (show xm_Imp g Γ 21 (xi_iret .boolean _) from xs_ireturn hΓ rfl dX1_commute_21) (b_X1_doCommute p1 p2 p3 p4) ⟨_, rfl, e⟩
noncomputable def F_X1_phase (g : xm_G) (p0 : Nat) (p1 : Int32) (p2 : Int32) (p3 : Int32) (p4 : Int32) (h : xm_H) (bc : Nat) (bs : Nat) (Q : Int32 → xm_H → Prop) (X : xm_X) : Prop :=
 xt_b (xh_is 0 h p0) (fun _ =>
 xt_c bc bs (fun m1 m2 => F_X1_checkMasks g p0 p1 p2 h m1 m2 (fun h3 =>
 xt_b (xh_is 0 h3 p0) (fun _ =>
 xt_c (bc - m1) (bs - m2) (fun m5 m6 => F_X1_checkMasks g p0 p3 p4 h3 m5 m6 (fun h7 =>
 xt_b (F_X1_phaseOf p1 p2 p3 p4) (fun v9 =>
 Q v9 h7)) X))) X))
set_option maxHeartbeats 4000000 in
theorem K_X1_phase {g : xm_G} (hG : xm_Gw g) (p0 : Nat) (p1 : Int32) (p2 : Int32) (p3 : Int32) (p4 : Int32) (h : xm_H) (bc : Nat) (bs : Nat) {Q : Int32 → xm_H → Prop} {X : xm_X} (e : F_X1_phase g p0 p1 p2 p3 p4 h bc bs Q X) : xm_Run g M_X1_phase 10 [.ref p0, .int p1, .int p2, .int p3, .int p4] h bc bs (fun v h' => ∃ r, v = some (.int r) ∧ Q r h') X := by
  refine xm_Run.of pn_StringTableau (Nat.le_of_ble_eq_true rfl) (fun Γ hΓ => ?_)
  show xm_W g Γ 0 [some (.ref p0), some (.int p1), some (.int p2), some (.int p3), some (.int p4)] [] h bc bs
  unfold F_X1_phase at e
  refine xw_ald (show xm_Imp g Γ 0 (xi_ald 0 1) from xs_aload_n hΓ dX1_phase_0) rfl ?_
  refine xw_ild (show xm_Imp g Γ 1 (xi_ild 1 2) from xs_iload_n hΓ dX1_phase_1) rfl ?_
  refine xw_ild (show xm_Imp g Γ 2 (xi_ild 2 3) from xs_iload_n hΓ dX1_phase_2) rfl ?_
  obtain ⟨_, e0, e⟩ := e
  obtain ⟨m1, m2, ⟨em1, em2⟩, e⟩ := e
  refine xw_tXvu2 (o := (some p0)) (show xm_Imp g Γ 3 (xi_virX g 0 M_X1_checkMasks 9 2 6 X) from xs_invVX hG hΓ k_X1_checkMasks rfl rfl (ci := 0) rfl q1885 q1887 qs38 dX1_phase_3) rfl rfl e0 em1 em2 (K_X1_checkMasks hG p0 p1 p2 _ _ _ e) (fun h3 e => ?_)
  refine xw_ald (show xm_Imp g Γ 6 (xi_ald 0 7) from xs_aload_n hΓ dX1_phase_6) rfl ?_
  refine xw_ild (show xm_Imp g Γ 7 (xi_ild 3 8) from xs_iload_n hΓ dX1_phase_7) rfl ?_
  refine xw_ild (show xm_Imp g Γ 8 (xi_ild 4 10) from xs_iload hΓ dX1_phase_8) rfl ?_
  obtain ⟨_, e0, e⟩ := e
  obtain ⟨m5, m6, ⟨em1, em2⟩, e⟩ := e
  refine xw_tXvu2 (o := (some p0)) (show xm_Imp g Γ 10 (xi_virX g 0 M_X1_checkMasks 9 2 13 X) from xs_invVX hG hΓ k_X1_checkMasks rfl rfl (ci := 0) rfl q1885 q1887 qs38 dX1_phase_10) rfl rfl e0 em1 em2 (K_X1_checkMasks hG p0 p3 p4 _ _ _ e) (fun h7 e => ?_)
  refine xw_ild (show xm_Imp g Γ 13 (xi_ild 1 14) from xs_iload_n hΓ dX1_phase_13) rfl ?_
  refine xw_ild (show xm_Imp g Γ 14 (xi_ild 2 15) from xs_iload_n hΓ dX1_phase_14) rfl ?_
  refine xw_ild (show xm_Imp g Γ 15 (xi_ild 3 16) from xs_iload_n hΓ dX1_phase_15) rfl ?_
  refine xw_ild (show xm_Imp g Γ 16 (xi_ild 4 18) from xs_iload hΓ dX1_phase_16) rfl ?_
  obtain ⟨v9, e1, e⟩ := e
  refine xw_sv4 (show xm_Imp g Γ 18 (xi_inv g M_X1_phaseOf 3 4 21) from xs_invS hG hΓ k_X1_phaseOf rfl q2015 q1235 dX1_phase_18) rfl (fun Q X hQ => K_X1_phaseOf hG p1 p2 p3 p4 e1 hQ) ?_
  exact xw_iret (show xm_Imp g Γ 21 (xi_iret .int _) from xs_ireturn hΓ rfl dX1_phase_21) (xn_int _) ⟨_, rfl, e⟩
noncomputable def F_X1_against (g : xm_G) (p0 : Nat) (p1 : Int32) (p2 : Int32) (h : xm_H) (bc : Nat) (bs : Nat) (Q : Int32 → xm_H → Prop) (X : xm_X) : Prop :=
 xt_b (xh_is 0 h p0) (fun _ =>
 xt_c bc bs (fun m1 m2 => F_X1_checkMasks g p0 p1 p2 h m1 m2 (fun h3 =>
 xt_b (xh_fr [(0, 0)] h3 p0) (fun v5 =>
 xt_b v5 (fun a6 =>
 xt_b (xh_fr [(1, 0)] h3 a6) (fun v7 =>
 xt_b v7 (fun a8 =>
 xt_b (xh_is 2 h3 a8) (fun _ =>
 xt_b (F_X3_against g a8 p1 p2 h3) (fun v9 =>
 Q v9 h3))))))) X))
set_option maxHeartbeats 4000000 in
theorem K_X1_against {g : xm_G} (hG : xm_Gw g) (p0 : Nat) (p1 : Int32) (p2 : Int32) (h : xm_H) (bc : Nat) (bs : Nat) {Q : Int32 → xm_H → Prop} {X : xm_X} (e : F_X1_against g p0 p1 p2 h bc bs Q X) : xm_Run g M_X1_against 10 [.ref p0, .int p1, .int p2] h bc bs (fun v h' => ∃ r, v = some (.int r) ∧ Q r h') X := by
  refine xm_Run.of pn_StringTableau (Nat.le_of_ble_eq_true rfl) (fun Γ hΓ => ?_)
  show xm_W g Γ 0 [some (.ref p0), some (.int p1), some (.int p2)] [] h bc bs
  unfold F_X1_against at e
  refine xw_ald (show xm_Imp g Γ 0 (xi_ald 0 1) from xs_aload_n hΓ dX1_against_0) rfl ?_
  refine xw_ild (show xm_Imp g Γ 1 (xi_ild 1 2) from xs_iload_n hΓ dX1_against_1) rfl ?_
  refine xw_ild (show xm_Imp g Γ 2 (xi_ild 2 3) from xs_iload_n hΓ dX1_against_2) rfl ?_
  obtain ⟨_, e0, e⟩ := e
  obtain ⟨m1, m2, ⟨em1, em2⟩, e⟩ := e
  refine xw_tXvu2 (o := (some p0)) (show xm_Imp g Γ 3 (xi_virX g 0 M_X1_checkMasks 9 2 6 X) from xs_invVX hG hΓ k_X1_checkMasks rfl rfl (ci := 0) rfl q1885 q1887 qs38 dX1_against_3) rfl rfl e0 em1 em2 (K_X1_checkMasks hG p0 p1 p2 _ _ _ e) (fun h3 e => ?_)
  refine xw_ald (show xm_Imp g Γ 6 (xi_ald 0 7) from xs_aload_n hΓ dX1_against_6) rfl ?_
  obtain ⟨v5, e1, e⟩ := e
  refine xw_gr1 (o := (some p0)) (show xm_Imp g Γ 7 (xi_get 0 0 10) from xs_get hG hΓ (ci := 0) (kf := 0) rfl (Nat.le_of_ble_eq_true rfl) q343 dX1_against_7) rfl e1 ?_
  obtain ⟨a6, ha6, e⟩ := e
  obtain ⟨v7, e1, e⟩ := e
  refine xw_gr1 (o := v5) (show xm_Imp g Γ 10 (xi_get 1 0 13) from xs_getN hG hΓ (ci := 1) (kf := 0) rfl (Nat.le_of_ble_eq_true rfl) q276 dX1_against_10) ha6 e1 ?_
  refine xw_ild (show xm_Imp g Γ 13 (xi_ild 1 14) from xs_iload_n hΓ dX1_against_13) rfl ?_
  refine xw_ild (show xm_Imp g Γ 14 (xi_ild 2 15) from xs_iload_n hΓ dX1_against_14) rfl ?_
  obtain ⟨a8, ha8, e⟩ := e
  obtain ⟨_, e0, e⟩ := e
  obtain ⟨v9, e1, e⟩ := e
  refine xw_hv2 (o := v7) (show xm_Imp g Γ 15 (xi_vir g 2 M_X3_against 4 2 18) from xs_invV hG hΓ k_X3_against rfl (ci := 2) rfl q2023 q1199 q1200 dX1_against_15) (by simp [xm_stk, xv_cat, xc_int, xc_long, xc_float, xc_double, xc_ref]) ha8 e0 (fun Q X hQ => K_X3_against hG a8 p1 p2 _ e1 hQ) ?_
  exact xw_iret (show xm_Imp g Γ 18 (xi_iret .int _) from xs_ireturn hΓ rfl dX1_against_18) (xn_int _) ⟨_, rfl, e⟩
noncomputable def F_X1_expectation (g : xm_G) (p0 : Nat) (p1 : Int32) (p2 : Int32) (h : xm_H) (bc : Nat) (bs : Nat) (Q : Int32 → xm_H → Prop) (X : xm_X) : Prop :=
 xt_b (xh_is 0 h p0) (fun _ =>
 xt_c bc bs (fun m1 m2 => F_X1_checkMasks g p0 p1 p2 h m1 m2 (fun h3 =>
 xt_b (xh_fr [(0, 0)] h3 p0) (fun v5 =>
 xt_new h3 (bc - m1) (bs - m2) 3 (.inr (3, [.int 0, .int 0, .int 0])) (fun a6 h7 b8 b9 =>
 xt_b (F_X4_init g a6 p1 p2 0 h7) (fun v10 =>
 xt_b v5 (fun a11 =>
 xt_b (xh_is 1 v10 a11) (fun _ =>
 xt_c b8 b9 (fun m12 m13 => F_X2_determined g a11 (some a6) v10 m12 m13 (fun v15 h14 =>
 Q v15 h14)))))))) X))
set_option maxHeartbeats 4000000 in
theorem K_X1_expectation {g : xm_G} (hG : xm_Gw g) (p0 : Nat) (p1 : Int32) (p2 : Int32) (h : xm_H) (bc : Nat) (bs : Nat) {Q : Int32 → xm_H → Prop} {X : xm_X} (e : F_X1_expectation g p0 p1 p2 h bc bs Q X) : xm_Run g M_X1_expectation 10 [.ref p0, .int p1, .int p2] h bc bs (fun v h' => ∃ r, v = some (.int r) ∧ Q r h') X := by
  refine xm_Run.of pn_StringTableau (Nat.le_of_ble_eq_true rfl) (fun Γ hΓ => ?_)
  show xm_W g Γ 0 [some (.ref p0), some (.int p1), some (.int p2)] [] h bc bs
  unfold F_X1_expectation at e
  refine xw_ald (show xm_Imp g Γ 0 (xi_ald 0 1) from xs_aload_n hΓ dX1_expectation_0) rfl ?_
  refine xw_ild (show xm_Imp g Γ 1 (xi_ild 1 2) from xs_iload_n hΓ dX1_expectation_1) rfl ?_
  refine xw_ild (show xm_Imp g Γ 2 (xi_ild 2 3) from xs_iload_n hΓ dX1_expectation_2) rfl ?_
  obtain ⟨_, e0, e⟩ := e
  obtain ⟨m1, m2, ⟨em1, em2⟩, e⟩ := e
  refine xw_tXvu2 (o := (some p0)) (show xm_Imp g Γ 3 (xi_virX g 0 M_X1_checkMasks 9 2 6 X) from xs_invVX hG hΓ k_X1_checkMasks rfl rfl (ci := 0) rfl q1885 q1887 qs38 dX1_expectation_3) rfl rfl e0 em1 em2 (K_X1_checkMasks hG p0 p1 p2 _ _ _ e) (fun h3 e => ?_)
  refine xw_ald (show xm_Imp g Γ 6 (xi_ald 0 7) from xs_aload_n hΓ dX1_expectation_6) rfl ?_
  obtain ⟨v5, e1, e⟩ := e
  refine xw_gr1 (o := (some p0)) (show xm_Imp g Γ 7 (xi_get 0 0 10) from xs_get hG hΓ (ci := 0) (kf := 0) rfl (Nat.le_of_ble_eq_true rfl) q343 dX1_expectation_7) rfl e1 ?_
  refine xw_new (show xm_Imp g Γ 10 (xi_new 3 3 [.int 0, .int 0, .int 0] 13) from xs_new hG hΓ (ci := 3) rfl q1658 q241 q127 rfl tyX4 tyX4_ok (xm_df 3 (by decide +kernel)) dX1_expectation_10) e (fun a6 h7 b8 b9 e => ?_)
  refine xw_dup (show xm_Imp g Γ 13 (xi_dup 14) from xs_dup hΓ dX1_expectation_13) rfl ?_
  refine xw_ild (show xm_Imp g Γ 14 (xi_ild 1 15) from xs_iload_n hΓ dX1_expectation_14) rfl ?_
  refine xw_ild (show xm_Imp g Γ 15 (xi_ild 2 16) from xs_iload_n hΓ dX1_expectation_15) rfl ?_
  refine xw_psh (v := (.int (0))) (show xm_Imp g Γ 16 (xi_psh (.int (0)) 17) from xs_iconst hΓ dX1_expectation_16 (by decide)) ?_
  obtain ⟨v10, e1, e⟩ := e
  refine xw_pu3 (o := (some a6)) (show xm_Imp g Γ 17 (xi_spe g M_X4_init 2 3 20) from xs_invI hG hΓ k_X4_init rfl q1889 q243 rfl dX1_expectation_17) (by simp [xm_stk, xv_cat, xc_int, xc_long, xc_float, xc_double, xc_ref]) rfl (fun Q X hQ => K_X4_init hG a6 p1 p2 0 _ e1 hQ) ?_
  obtain ⟨a11, ha11, e⟩ := e
  obtain ⟨_, e0, e⟩ := e
  obtain ⟨m12, m13, ⟨em1, em2⟩, e⟩ := e
  refine xw_tvi1 (o := v5) (show xm_Imp g Γ 20 (xi_vir g 1 M_X2_determined 7 1 23) from xs_invV hG hΓ k_X2_determined rfl (ci := 1) rfl q2031 q1195 q1196 dX1_expectation_20) (by simp [xm_stk, xv_cat, xc_int, xc_long, xc_float, xc_double, xc_ref]) ha11 e0 em1 em2 (K_X2_determined hG a11 (some a6) _ _ _ e) (fun v15 h14 e => ?_)
  exact xw_iret (show xm_Imp g Γ 23 (xi_iret .int _) from xs_ireturn hΓ rfl dX1_expectation_23) (xn_int _) ⟨_, rfl, e⟩
noncomputable def F_X1_decompose (g : xm_G) (p0 : Nat) (p1 : Int32) (p2 : Int32) (h : xm_H) (bc : Nat) (bs : Nat) (Q : Int32 → xm_H → Prop) (X : xm_X) : Prop :=
 xt_b (xh_is 0 h p0) (fun _ =>
 xt_c bc bs (fun m1 m2 => F_X1_checkMasks g p0 p1 p2 h m1 m2 (fun h3 =>
 xt_b (xh_fr [(0, 0)] h3 p0) (fun v5 =>
 xt_b v5 (fun a6 =>
 xt_b (xh_fr [(1, 0)] h3 a6) (fun v7 =>
 xt_b v7 (fun a8 =>
 xt_b (xh_is 2 h3 a8) (fun _ =>
 xt_b (F_X3_decompose g a8 p1 p2 h3) (fun v9 =>
 Q v9 h3))))))) X))
set_option maxHeartbeats 4000000 in
theorem K_X1_decompose {g : xm_G} (hG : xm_Gw g) (p0 : Nat) (p1 : Int32) (p2 : Int32) (h : xm_H) (bc : Nat) (bs : Nat) {Q : Int32 → xm_H → Prop} {X : xm_X} (e : F_X1_decompose g p0 p1 p2 h bc bs Q X) : xm_Run g M_X1_decompose 10 [.ref p0, .int p1, .int p2] h bc bs (fun v h' => ∃ r, v = some (.int r) ∧ Q r h') X := by
  refine xm_Run.of pn_StringTableau (Nat.le_of_ble_eq_true rfl) (fun Γ hΓ => ?_)
  show xm_W g Γ 0 [some (.ref p0), some (.int p1), some (.int p2)] [] h bc bs
  unfold F_X1_decompose at e
  refine xw_ald (show xm_Imp g Γ 0 (xi_ald 0 1) from xs_aload_n hΓ dX1_decompose_0) rfl ?_
  refine xw_ild (show xm_Imp g Γ 1 (xi_ild 1 2) from xs_iload_n hΓ dX1_decompose_1) rfl ?_
  refine xw_ild (show xm_Imp g Γ 2 (xi_ild 2 3) from xs_iload_n hΓ dX1_decompose_2) rfl ?_
  obtain ⟨_, e0, e⟩ := e
  obtain ⟨m1, m2, ⟨em1, em2⟩, e⟩ := e
  refine xw_tXvu2 (o := (some p0)) (show xm_Imp g Γ 3 (xi_virX g 0 M_X1_checkMasks 9 2 6 X) from xs_invVX hG hΓ k_X1_checkMasks rfl rfl (ci := 0) rfl q1885 q1887 qs38 dX1_decompose_3) rfl rfl e0 em1 em2 (K_X1_checkMasks hG p0 p1 p2 _ _ _ e) (fun h3 e => ?_)
  refine xw_ald (show xm_Imp g Γ 6 (xi_ald 0 7) from xs_aload_n hΓ dX1_decompose_6) rfl ?_
  obtain ⟨v5, e1, e⟩ := e
  refine xw_gr1 (o := (some p0)) (show xm_Imp g Γ 7 (xi_get 0 0 10) from xs_get hG hΓ (ci := 0) (kf := 0) rfl (Nat.le_of_ble_eq_true rfl) q343 dX1_decompose_7) rfl e1 ?_
  obtain ⟨a6, ha6, e⟩ := e
  obtain ⟨v7, e1, e⟩ := e
  refine xw_gr1 (o := v5) (show xm_Imp g Γ 10 (xi_get 1 0 13) from xs_getN hG hΓ (ci := 1) (kf := 0) rfl (Nat.le_of_ble_eq_true rfl) q276 dX1_decompose_10) ha6 e1 ?_
  refine xw_ild (show xm_Imp g Γ 13 (xi_ild 1 14) from xs_iload_n hΓ dX1_decompose_13) rfl ?_
  refine xw_ild (show xm_Imp g Γ 14 (xi_ild 2 15) from xs_iload_n hΓ dX1_decompose_14) rfl ?_
  obtain ⟨a8, ha8, e⟩ := e
  obtain ⟨_, e0, e⟩ := e
  obtain ⟨v9, e1, e⟩ := e
  refine xw_hv2 (o := v7) (show xm_Imp g Γ 15 (xi_vir g 2 M_X3_decompose 2 2 18) from xs_invV hG hΓ k_X3_decompose rfl (ci := 2) rfl q2039 q1220 q1221 dX1_decompose_15) (by simp [xm_stk, xv_cat, xc_int, xc_long, xc_float, xc_double, xc_ref]) ha8 e0 (fun Q X hQ => K_X3_decompose hG a8 p1 p2 _ e1 hQ) ?_
  exact xw_iret (show xm_Imp g Γ 18 (xi_iret .int _) from xs_ireturn hΓ rfl dX1_decompose_18) (xn_int _) ⟨_, rfl, e⟩
noncomputable def F_X1_element (g : xm_G) (p0 : Nat) (p1 : Int32) (p2 : Int32) (h : xm_H) (bc : Nat) (bs : Nat) (Q : Int32 → xm_H → Prop) (X : xm_X) : Prop :=
 xt_c bc bs (fun m1 m2 => F_X1_checkIndex g (F_X1_inRange p2 0 2) h m1 m2 (fun h3 =>
 xt_b (xh_is 0 h3 p0) (fun _ =>
 xt_c (bc - m1) (bs - m2) (fun m5 m6 => F_X1_checkMasks g p0 p1 0 h3 m5 m6 (fun h7 =>
 xt_b (xh_fr [(0, 0)] h7 p0) (fun v9 =>
 xt_b v9 (fun a10 =>
 xt_b (xh_fr [(1, 0)] h7 a10) (fun v11 =>
 xt_b v11 (fun a12 =>
 xt_b (xh_is 2 h7 a12) (fun _ =>
 xt_c ((bc - m1) - m5) ((bs - m2) - m6) (fun m13 m14 => F_X3_element g a12 p1 h7 m13 m14 (fun v16 h15 =>
 xt_b v16 (fun a17 =>
 xt_b (xh_is 3 h15 a17) (fun _ =>
 xt_b (F_X4_property g a17 p2 h15) (fun v18 =>
 Q v18 h15))))))))))) X))) X)
set_option maxHeartbeats 4000000 in
theorem K_X1_element {g : xm_G} (hG : xm_Gw g) (p0 : Nat) (p1 : Int32) (p2 : Int32) (h : xm_H) (bc : Nat) (bs : Nat) {Q : Int32 → xm_H → Prop} {X : xm_X} (e : F_X1_element g p0 p1 p2 h bc bs Q X) : xm_Run g M_X1_element 10 [.ref p0, .int p1, .int p2] h bc bs (fun v h' => ∃ r, v = some (.int r) ∧ Q r h') X := by
  refine xm_Run.of pn_StringTableau (Nat.le_of_ble_eq_true rfl) (fun Γ hΓ => ?_)
  show xm_W g Γ 0 [some (.ref p0), some (.int p1), some (.int p2)] [] h bc bs
  unfold F_X1_element at e
  refine xw_ild (show xm_Imp g Γ 0 (xi_ild 2 1) from xs_iload_n hΓ dX1_element_0) rfl ?_
  refine xw_psh (v := (.int (0))) (show xm_Imp g Γ 1 (xi_psh (.int (0)) 2) from xs_iconst hΓ dX1_element_1 (by decide)) ?_
  refine xw_psh (v := (.int (2))) (show xm_Imp g Γ 2 (xi_psh (.int (2)) 3) from xs_iconst hΓ dX1_element_2 (by decide)) ?_
  refine xw_sv3 (show xm_Imp g Γ 3 (xi_inv g M_X1_inRange 1 3 6) from xs_invS hG hΓ k_X1_inRange rfl q387 q388 dX1_element_3) rfl (fun Q X hQ => K_X1_inRange hG p2 0 2 rfl hQ) ?_
  obtain ⟨m1, m2, ⟨em1, em2⟩, e⟩ := e
  refine xw_tXsu1 (show xm_Imp g Γ 6 (xi_invX g M_X1_checkIndex 8 1 9 X) from xs_invSX hG hΓ k_X1_checkIndex rfl rfl q1837 q1838 dX1_element_6) rfl em1 em2 (K_X1_checkIndex hG (F_X1_inRange p2 0 2) _ _ _ e) (fun h3 e => ?_)
  refine xw_ald (show xm_Imp g Γ 9 (xi_ald 0 10) from xs_aload_n hΓ dX1_element_9) rfl ?_
  refine xw_ild (show xm_Imp g Γ 10 (xi_ild 1 11) from xs_iload_n hΓ dX1_element_10) rfl ?_
  refine xw_psh (v := (.int (0))) (show xm_Imp g Γ 11 (xi_psh (.int (0)) 12) from xs_iconst hΓ dX1_element_11 (by decide)) ?_
  obtain ⟨_, e0, e⟩ := e
  obtain ⟨m5, m6, ⟨em1, em2⟩, e⟩ := e
  refine xw_tXvu2 (o := (some p0)) (show xm_Imp g Γ 12 (xi_virX g 0 M_X1_checkMasks 9 2 15 X) from xs_invVX hG hΓ k_X1_checkMasks rfl rfl (ci := 0) rfl q1885 q1887 qs38 dX1_element_12) rfl rfl e0 em1 em2 (K_X1_checkMasks hG p0 p1 0 _ _ _ e) (fun h7 e => ?_)
  refine xw_ald (show xm_Imp g Γ 15 (xi_ald 0 16) from xs_aload_n hΓ dX1_element_15) rfl ?_
  obtain ⟨v9, e1, e⟩ := e
  refine xw_gr1 (o := (some p0)) (show xm_Imp g Γ 16 (xi_get 0 0 19) from xs_get hG hΓ (ci := 0) (kf := 0) rfl (Nat.le_of_ble_eq_true rfl) q343 dX1_element_16) rfl e1 ?_
  obtain ⟨a10, ha10, e⟩ := e
  obtain ⟨v11, e1, e⟩ := e
  refine xw_gr1 (o := v9) (show xm_Imp g Γ 19 (xi_get 1 0 22) from xs_getN hG hΓ (ci := 1) (kf := 0) rfl (Nat.le_of_ble_eq_true rfl) q276 dX1_element_19) ha10 e1 ?_
  refine xw_ild (show xm_Imp g Γ 22 (xi_ild 1 23) from xs_iload_n hΓ dX1_element_22) rfl ?_
  obtain ⟨a12, ha12, e⟩ := e
  obtain ⟨_, e0, e⟩ := e
  obtain ⟨m13, m14, ⟨em1, em2⟩, e⟩ := e
  refine xw_tvr1 (o := v11) (show xm_Imp g Γ 23 (xi_vir g 2 M_X3_element 5 1 26) from xs_invV hG hΓ k_X3_element rfl (ci := 2) rfl q2047 q1227 q1228 dX1_element_23) (by simp [xm_stk, xv_cat, xc_int, xc_long, xc_float, xc_double, xc_ref]) ha12 e0 em1 em2 (K_X3_element hG a12 p1 _ _ _ e) (fun v16 h15 e => ?_)
  refine xw_ild (show xm_Imp g Γ 26 (xi_ild 2 27) from xs_iload_n hΓ dX1_element_26) rfl ?_
  obtain ⟨a17, ha17, e⟩ := e
  obtain ⟨_, e0, e⟩ := e
  obtain ⟨v18, e1, e⟩ := e
  refine xw_hv1 (o := v16) (show xm_Imp g Γ 27 (xi_vir g 3 M_X4_property 8 1 30) from xs_invV hG hΓ k_X4_property rfl (ci := 3) rfl q1978 q1979 q1980 dX1_element_27) (by simp [xm_stk, xv_cat, xc_int, xc_long, xc_float, xc_double, xc_ref]) ha17 e0 (fun Q X hQ => K_X4_property hG a17 p2 _ e1 hQ) ?_
  exact xw_iret (show xm_Imp g Γ 30 (xi_iret .int _) from xs_ireturn hΓ rfl dX1_element_30) (xn_int _) ⟨_, rfl, e⟩
noncomputable def F_X1_isLighter (g : xm_G) (p0 : Option Nat) (p1 : Option Nat) (h : xm_H) : Option (Int32) :=
 xo_b p0 (fun a1 =>
 xo_b (xh_is 3 h a1) (fun _ =>
 xo_b (F_X4_weight g a1 h) (fun v2 =>
 xo_b p1 (fun a3 =>
 xo_b (xh_is 3 h a3) (fun _ =>
 xo_b (F_X4_weight g a3 h) (fun v4 =>
 (if v2 = v4 then
 xo_b (xh_fi [(3, 0)] h a1) (fun v5 =>
 xo_b (xh_fi [(3, 0)] h a3) (fun v6 =>
 (if v5 = v6 then
 xo_b (xh_fi [(3, 1)] h a1) (fun v7 =>
 xo_b (xh_fi [(3, 1)] h a3) (fun v8 =>
 (if v8 ≤ v7 then
 some 0 else
 some 1))) else
 xo_b (xh_fi [(3, 0)] h a1) (fun v9 =>
 xo_b (xh_fi [(3, 0)] h a3) (fun v10 =>
 (if v10 ≤ v9 then
 some 0 else
 some 1)))))) else
 xo_b (xh_is 3 h a1) (fun _ =>
 xo_b (F_X4_weight g a1 h) (fun v11 =>
 xo_b (xh_is 3 h a3) (fun _ =>
 xo_b (F_X4_weight g a3 h) (fun v12 =>
 (if v12 ≤ v11 then
 some 0 else
 some 1))))))))))))
set_option maxHeartbeats 4000000 in
theorem K_X1_isLighter {g : xm_G} (hG : xm_Gw g) (p0 : Option Nat) (p1 : Option Nat) (h : xm_H) {o : Int32} (e : F_X1_isLighter g p0 p1 h = some o) {Q : xm_P} {X : xm_X} (hQ : Q (some (.int o)) h) : xm_Run g M_X1_isLighter 3 [va_rf p0, va_rf p1] h 0 0 Q X := by
  refine xm_Run.of2 (ls := [some (va_rf p0), some (va_rf p1)]) pn_StringTableau (by cases p0 <;> cases p1 <;> exact Nat.le_of_ble_eq_true rfl) (by cases p0 <;> cases p1 <;> rfl) (fun Γ hΓ => ?_)
  obtain ⟨P0, hP0, hp⟩ : ∃ P : Int32 → Prop, (∀ o, P o → Q (some (.int o)) h) ∧ P o := ⟨fun o => Q (some (.int o)) h, fun _ h => h, hQ⟩
  clear hQ
  show xm_W g Γ 0 [some (va_rf p0), some (va_rf p1)] [] h 0 0
  unfold F_X1_isLighter at e
  refine xw_aldo (x := p0) (show xm_Imp g Γ 0 (xi_ald 0 1) from xs_aload_n hΓ dX1_isLighter_0) rfl ?_
  obtain ⟨a1, ha1, e⟩ := xo_b_s e
  obtain ⟨_, e0, e⟩ := xo_b_s e
  obtain ⟨v2, e1, e⟩ := xo_b_s e
  refine xw_hv0 (o := p0) (show xm_Imp g Γ 1 (xi_vir g 3 M_X4_weight 2 0 4) from xs_invV hG hΓ k_X4_weight rfl (ci := 3) rfl q1659 q1660 q1661 dX1_isLighter_1) (by simp [xm_stk, xv_cat, xc_int, xc_long, xc_float, xc_double, xc_ref]) ha1 e0 (fun Q X hQ => K_X4_weight hG a1 _ e1 hQ) ?_
  refine xw_aldo (x := p1) (show xm_Imp g Γ 4 (xi_ald 1 5) from xs_aload_n hΓ dX1_isLighter_4) rfl ?_
  obtain ⟨a3, ha3, e⟩ := xo_b_s e
  obtain ⟨_, e0, e⟩ := xo_b_s e
  obtain ⟨v4, e1, e⟩ := xo_b_s e
  refine xw_hv0 (o := p1) (show xm_Imp g Γ 5 (xi_vir g 3 M_X4_weight 2 0 8) from xs_invV hG hΓ k_X4_weight rfl (ci := 3) rfl q1659 q1660 q1661 dX1_isLighter_5) (by simp [xm_stk, xv_cat, xc_int, xc_long, xc_float, xc_double, xc_ref]) ha3 e0 (fun Q X hQ => K_X4_weight hG a3 _ e1 hQ) ?_
  refine xw_ic (show xm_Imp g Γ 8 (xi_ic (fun x y => x = y) 28 11) from xs_icmp_eq hΓ dX1_isLighter_8 (by decide)) (fun c => ?_) (fun c => ?_)
  · rw [if_pos c] at e
    refine xw_aldo (x := p0) (show xm_Imp g Γ 28 (xi_ald 0 29) from xs_aload_n hΓ dX1_isLighter_28) rfl ?_
    obtain ⟨v5, e1, e⟩ := xo_b_s e
    refine xw_gi1 (o := p0) (show xm_Imp g Γ 29 (xi_get 3 0 32) from xs_getN hG hΓ (ci := 3) (kf := 0) rfl (Nat.le_of_ble_eq_true rfl) q250 dX1_isLighter_29) ha1 e1 ?_
    refine xw_aldo (x := p1) (show xm_Imp g Γ 32 (xi_ald 1 33) from xs_aload_n hΓ dX1_isLighter_32) rfl ?_
    obtain ⟨v6, e1, e⟩ := xo_b_s e
    refine xw_gi1 (o := p1) (show xm_Imp g Γ 33 (xi_get 3 0 36) from xs_getN hG hΓ (ci := 3) (kf := 0) rfl (Nat.le_of_ble_eq_true rfl) q250 dX1_isLighter_33) ha3 e1 ?_
    refine xw_ic (show xm_Imp g Γ 36 (xi_ic (fun x y => x = y) 58 39) from xs_icmp_eq hΓ dX1_isLighter_36 (by decide)) (fun c => ?_) (fun c => ?_)
    · rw [if_pos c] at e
      refine xw_aldo (x := p0) (show xm_Imp g Γ 58 (xi_ald 0 59) from xs_aload_n hΓ dX1_isLighter_58) rfl ?_
      obtain ⟨v7, e1, e⟩ := xo_b_s e
      refine xw_gi1 (o := p0) (show xm_Imp g Γ 59 (xi_get 3 1 62) from xs_getN hG hΓ (ci := 3) (kf := 1) rfl (Nat.le_of_ble_eq_true rfl) q255 dX1_isLighter_59) ha1 e1 ?_
      refine xw_aldo (x := p1) (show xm_Imp g Γ 62 (xi_ald 1 63) from xs_aload_n hΓ dX1_isLighter_62) rfl ?_
      obtain ⟨v8, e1, e⟩ := xo_b_s e
      refine xw_gi1 (o := p1) (show xm_Imp g Γ 63 (xi_get 3 1 66) from xs_getN hG hΓ (ci := 3) (kf := 1) rfl (Nat.le_of_ble_eq_true rfl) q255 dX1_isLighter_63) ha3 e1 ?_
      refine xw_ic (show xm_Imp g Γ 66 (xi_ic (fun x y => y ≤ x) 73 69) from xs_icmp_ge hΓ dX1_isLighter_66 (by decide)) (fun c => ?_) (fun c => ?_)
      · rw [if_pos c] at e
        refine xw_psh (v := (.int (0))) (show xm_Imp g Γ 73 (xi_psh (.int (0)) 74) from xs_iconst hΓ dX1_isLighter_73 (by decide)) ?_
        have hq := hP0 _ (xl_fin e hp)
        exact xw_iret (show xm_Imp g Γ 74 (xi_iret .boolean _) from xs_ireturn hΓ rfl dX1_isLighter_74) rfl hq
      · rw [if_neg c] at e
        refine xw_psh (v := (.int (1))) (show xm_Imp g Γ 69 (xi_psh (.int (1)) 70) from xs_iconst hΓ dX1_isLighter_69 (by decide)) ?_
        refine xw_goto (show xm_Imp g Γ 70 (xi_goto 74) from xs_goto hΓ dX1_isLighter_70 (by decide)) ?_
        have hq := hP0 _ (xl_fin e hp)
        exact xw_iret (show xm_Imp g Γ 74 (xi_iret .boolean _) from xs_ireturn hΓ rfl dX1_isLighter_74) rfl hq
    · rw [if_neg c] at e
      refine xw_aldo (x := p0) (show xm_Imp g Γ 39 (xi_ald 0 40) from xs_aload_n hΓ dX1_isLighter_39) rfl ?_
      obtain ⟨v9, e1, e⟩ := xo_b_s e
      refine xw_gi1 (o := p0) (show xm_Imp g Γ 40 (xi_get 3 0 43) from xs_getN hG hΓ (ci := 3) (kf := 0) rfl (Nat.le_of_ble_eq_true rfl) q250 dX1_isLighter_40) ha1 e1 ?_
      refine xw_aldo (x := p1) (show xm_Imp g Γ 43 (xi_ald 1 44) from xs_aload_n hΓ dX1_isLighter_43) rfl ?_
      obtain ⟨v10, e1, e⟩ := xo_b_s e
      refine xw_gi1 (o := p1) (show xm_Imp g Γ 44 (xi_get 3 0 47) from xs_getN hG hΓ (ci := 3) (kf := 0) rfl (Nat.le_of_ble_eq_true rfl) q250 dX1_isLighter_44) ha3 e1 ?_
      refine xw_ic (show xm_Imp g Γ 47 (xi_ic (fun x y => y ≤ x) 54 50) from xs_icmp_ge hΓ dX1_isLighter_47 (by decide)) (fun c => ?_) (fun c => ?_)
      · rw [if_pos c] at e
        refine xw_psh (v := (.int (0))) (show xm_Imp g Γ 54 (xi_psh (.int (0)) 55) from xs_iconst hΓ dX1_isLighter_54 (by decide)) ?_
        refine xw_goto (show xm_Imp g Γ 55 (xi_goto 74) from xs_goto hΓ dX1_isLighter_55 (by decide)) ?_
        have hq := hP0 _ (xl_fin e hp)
        exact xw_iret (show xm_Imp g Γ 74 (xi_iret .boolean _) from xs_ireturn hΓ rfl dX1_isLighter_74) rfl hq
      · rw [if_neg c] at e
        refine xw_psh (v := (.int (1))) (show xm_Imp g Γ 50 (xi_psh (.int (1)) 51) from xs_iconst hΓ dX1_isLighter_50 (by decide)) ?_
        refine xw_goto (show xm_Imp g Γ 51 (xi_goto 74) from xs_goto hΓ dX1_isLighter_51 (by decide)) ?_
        have hq := hP0 _ (xl_fin e hp)
        exact xw_iret (show xm_Imp g Γ 74 (xi_iret .boolean _) from xs_ireturn hΓ rfl dX1_isLighter_74) rfl hq
  · rw [if_neg c] at e
    refine xw_aldo (x := p0) (show xm_Imp g Γ 11 (xi_ald 0 12) from xs_aload_n hΓ dX1_isLighter_11) rfl ?_
    obtain ⟨_, e0, e⟩ := xo_b_s e
    obtain ⟨v11, e1, e⟩ := xo_b_s e
    refine xw_hv0 (o := p0) (show xm_Imp g Γ 12 (xi_vir g 3 M_X4_weight 2 0 15) from xs_invV hG hΓ k_X4_weight rfl (ci := 3) rfl q1659 q1660 q1661 dX1_isLighter_12) (by simp [xm_stk, xv_cat, xc_int, xc_long, xc_float, xc_double, xc_ref]) ha1 e0 (fun Q X hQ => K_X4_weight hG a1 _ e1 hQ) ?_
    refine xw_aldo (x := p1) (show xm_Imp g Γ 15 (xi_ald 1 16) from xs_aload_n hΓ dX1_isLighter_15) rfl ?_
    obtain ⟨_, e0, e⟩ := xo_b_s e
    obtain ⟨v12, e1, e⟩ := xo_b_s e
    refine xw_hv0 (o := p1) (show xm_Imp g Γ 16 (xi_vir g 3 M_X4_weight 2 0 19) from xs_invV hG hΓ k_X4_weight rfl (ci := 3) rfl q1659 q1660 q1661 dX1_isLighter_16) (by simp [xm_stk, xv_cat, xc_int, xc_long, xc_float, xc_double, xc_ref]) ha3 e0 (fun Q X hQ => K_X4_weight hG a3 _ e1 hQ) ?_
    refine xw_ic (show xm_Imp g Γ 19 (xi_ic (fun x y => y ≤ x) 26 22) from xs_icmp_ge hΓ dX1_isLighter_19 (by decide)) (fun c => ?_) (fun c => ?_)
    · rw [if_pos c] at e
      refine xw_psh (v := (.int (0))) (show xm_Imp g Γ 26 (xi_psh (.int (0)) 27) from xs_iconst hΓ dX1_isLighter_26 (by decide)) ?_
      have hq := hP0 _ (xl_fin e hp)
      exact xw_iret (show xm_Imp g Γ 27 (xi_iret .boolean _) from xs_ireturn hΓ rfl dX1_isLighter_27) rfl hq
    · rw [if_neg c] at e
      refine xw_psh (v := (.int (1))) (show xm_Imp g Γ 22 (xi_psh (.int (1)) 23) from xs_iconst hΓ dX1_isLighter_22 (by decide)) ?_
      refine xw_goto (show xm_Imp g Γ 23 (xi_goto 27) from xs_goto hΓ dX1_isLighter_23 (by decide)) ?_
      have hq := hP0 _ (xl_fin e hp)
      exact xw_iret (show xm_Imp g Γ 27 (xi_iret .boolean _) from xs_ireturn hΓ rfl dX1_isLighter_27) rfl hq
noncomputable def B_X1_lightest_66 (g : xm_G) (l1 : Int32) (l2 : Option Nat) (l3 : Option Nat) (h : xm_H) (bc : Nat) (bs : Nat) (k22 : Option Nat × xm_H × Nat × Nat → Prop) (Q : Int32 → xm_H → Prop) (X : xm_X) : Prop :=
 k22 (l2, h, bc, bs)
noncomputable def B_X1_lightest_63 (g : xm_G) (l1 : Int32) (l3 : Option Nat) (l4 : Option Nat) (h : xm_H) (bc : Nat) (bs : Nat) (k22 : Option Nat × xm_H × Nat × Nat → Prop) (Q : Int32 → xm_H → Prop) (X : xm_X) : Prop :=
 B_X1_lightest_66 g l1 l4 l3 h bc bs k22 Q X
noncomputable def D_X1_lightest_22 (g : xm_G) (l1 : Int32) (l3 : Option Nat) (Q : Int32 → xm_H → Prop) (X : xm_X) (k22 : Option Nat × xm_H × Nat × Nat → Prop) (s : Option Nat × xm_H × Nat × Nat) : Prop :=
 xt_b l3 (fun a13 =>
 xt_b (xh_ci s.2.1 a13) (fun c14 =>
 (if c14 = 10 then
 xt_b (F_X12_hasNext g a13 s.2.1) (fun v15 =>
 (if v15 = 0 then
 xt_b s.1 (fun a16 =>
 xt_b (xh_is 3 s.2.1 a16) (fun _ =>
 xt_b (F_X4_property g a16 l1 s.2.1) (fun v17 =>
 Q v17 s.2.1))) else
 xt_b (xh_ci s.2.1 a13) (fun c18 =>
 (if c18 = 10 then
 xt_c s.2.2.1 s.2.2.2 (fun m19 m20 => F_X12_next g a13 s.2.1 m19 m20 (fun v22 h21 =>
 xt_b (xh_cast "StringTableau$Row" h21 v22) (fun _ =>
 xt_b v22 (fun a23 =>
 xt_b (xh_is 3 h21 a23) (fun _ =>
 xt_b (F_X4_weight g a23 h21) (fun v24 =>
 (if v24 ≤ 0 then
 B_X1_lightest_66 g l1 s.1 l3 h21 (s.2.2.1 - m19) (s.2.2.2 - m20) k22 Q X else
 (if s.1 = none then
 B_X1_lightest_63 g l1 l3 v22 h21 (s.2.2.1 - m19) (s.2.2.2 - m20) k22 Q X else
 xt_b (F_X1_isLighter g v22 s.1 h21) (fun v25 =>
 (if v25 = 0 then
 B_X1_lightest_66 g l1 s.1 l3 h21 (s.2.2.1 - m19) (s.2.2.2 - m20) k22 Q X else
 B_X1_lightest_63 g l1 l3 v22 h21 (s.2.2.1 - m19) (s.2.2.2 - m20) k22 Q X)))))))))) else
 (if c18 = 16 then
 xt_b (F_J23_next g a13 s.2.1) (fun v26 =>
 xt_b (xh_cast "StringTableau$Row" v26.2 v26.1) (fun _ =>
 xt_b v26.1 (fun a27 =>
 xt_b (xh_is 3 v26.2 a27) (fun _ =>
 xt_b (F_X4_weight g a27 v26.2) (fun v28 =>
 (if v28 ≤ 0 then
 B_X1_lightest_66 g l1 s.1 l3 v26.2 s.2.2.1 s.2.2.2 k22 Q X else
 (if s.1 = none then
 B_X1_lightest_63 g l1 l3 v26.1 v26.2 s.2.2.1 s.2.2.2 k22 Q X else
 xt_b (F_X1_isLighter g v26.1 s.1 v26.2) (fun v29 =>
 (if v29 = 0 then
 B_X1_lightest_66 g l1 s.1 l3 v26.2 s.2.2.1 s.2.2.2 k22 Q X else
 B_X1_lightest_63 g l1 l3 v26.1 v26.2 s.2.2.1 s.2.2.2 k22 Q X))))))))) else
 False))))) else
 (if c14 = 16 then
 xt_b (F_J23_hasNext g a13 s.2.1) (fun v30 =>
 (if v30 = 0 then
 xt_b s.1 (fun a31 =>
 xt_b (xh_is 3 s.2.1 a31) (fun _ =>
 xt_b (F_X4_property g a31 l1 s.2.1) (fun v32 =>
 Q v32 s.2.1))) else
 xt_b (xh_ci s.2.1 a13) (fun c33 =>
 (if c33 = 10 then
 xt_c s.2.2.1 s.2.2.2 (fun m34 m35 => F_X12_next g a13 s.2.1 m34 m35 (fun v37 h36 =>
 xt_b (xh_cast "StringTableau$Row" h36 v37) (fun _ =>
 xt_b v37 (fun a38 =>
 xt_b (xh_is 3 h36 a38) (fun _ =>
 xt_b (F_X4_weight g a38 h36) (fun v39 =>
 (if v39 ≤ 0 then
 B_X1_lightest_66 g l1 s.1 l3 h36 (s.2.2.1 - m34) (s.2.2.2 - m35) k22 Q X else
 (if s.1 = none then
 B_X1_lightest_63 g l1 l3 v37 h36 (s.2.2.1 - m34) (s.2.2.2 - m35) k22 Q X else
 xt_b (F_X1_isLighter g v37 s.1 h36) (fun v40 =>
 (if v40 = 0 then
 B_X1_lightest_66 g l1 s.1 l3 h36 (s.2.2.1 - m34) (s.2.2.2 - m35) k22 Q X else
 B_X1_lightest_63 g l1 l3 v37 h36 (s.2.2.1 - m34) (s.2.2.2 - m35) k22 Q X)))))))))) else
 (if c33 = 16 then
 xt_b (F_J23_next g a13 s.2.1) (fun v41 =>
 xt_b (xh_cast "StringTableau$Row" v41.2 v41.1) (fun _ =>
 xt_b v41.1 (fun a42 =>
 xt_b (xh_is 3 v41.2 a42) (fun _ =>
 xt_b (F_X4_weight g a42 v41.2) (fun v43 =>
 (if v43 ≤ 0 then
 B_X1_lightest_66 g l1 s.1 l3 v41.2 s.2.2.1 s.2.2.2 k22 Q X else
 (if s.1 = none then
 B_X1_lightest_63 g l1 l3 v41.1 v41.2 s.2.2.1 s.2.2.2 k22 Q X else
 xt_b (F_X1_isLighter g v41.1 s.1 v41.2) (fun v44 =>
 (if v44 = 0 then
 B_X1_lightest_66 g l1 s.1 l3 v41.2 s.2.2.1 s.2.2.2 k22 Q X else
 B_X1_lightest_63 g l1 l3 v41.1 v41.2 s.2.2.1 s.2.2.2 k22 Q X))))))))) else
 False))))) else
 False))))
noncomputable def L_X1_lightest_22 (g : xm_G) (l1 : Int32) (l3 : Option Nat) (Q : Int32 → xm_H → Prop) (X : xm_X) (s : Option Nat × xm_H × Nat × Nat) : Prop := xt_loop (D_X1_lightest_22 g l1 l3 Q X) s
noncomputable def F_X1_lightest (g : xm_G) (p0 : Nat) (p1 : Int32) (h : xm_H) (bc : Nat) (bs : Nat) (Q : Int32 → xm_H → Prop) (X : xm_X) : Prop :=
 xt_c bc bs (fun m1 m2 => F_X1_checkIndex g (F_X1_inRange p1 0 3) h m1 m2 (fun h3 =>
 xt_b (xh_fr [(0, 0)] h3 p0) (fun v5 =>
 xt_b v5 (fun a6 =>
 xt_b (xh_fr [(1, 0)] h3 a6) (fun v7 =>
 xt_b v7 (fun a8 =>
 xt_b (xh_is 2 h3 a8) (fun _ =>
 xt_c (bc - m1) (bs - m2) (fun m9 m10 => F_X3_iterator g a8 h3 m9 m10 (fun v12 h11 =>
 L_X1_lightest_22 g p1 v12 Q X (none, h11, ((bc - m1) - m9), ((bs - m2) - m10)))))))))) X)
set_option maxHeartbeats 4000000 in
theorem K_X1_lightest {g : xm_G} (hG : xm_Gw g) (p0 : Nat) (p1 : Int32) (h : xm_H) (bc : Nat) (bs : Nat) {Q : Int32 → xm_H → Prop} {X : xm_X} (e : F_X1_lightest g p0 p1 h bc bs Q X) : xm_Run g M_X1_lightest 10 [.ref p0, .int p1] h bc bs (fun v h' => ∃ r, v = some (.int r) ∧ Q r h') X := by
  refine xm_Run.of pn_StringTableau (Nat.le_of_ble_eq_true rfl) (fun Γ hΓ => ?_)
  show xm_W g Γ 0 [some (.ref p0), some (.int p1), none, none, none] [] h bc bs
  have hL_22 : ∀ (l1 : Int32) (l3 : Option Nat) (s : Option Nat × xm_H × Nat × Nat), L_X1_lightest_22 g l1 l3 Q X s → xm_W g Γ 22 [none, some (.int l1), some (va_rf s.1), some (va_rf l3), none] [] s.2.1 s.2.2.1 s.2.2.2 := by
    intro l1 l3
    refine xt_rule (WS := fun s : Option Nat × xm_H × Nat × Nat => xm_W g Γ 22 [none, some (.int l1), some (va_rf s.1), some (va_rf l3), none] [] s.2.1 s.2.2.1 s.2.2.2) ?_
    intro k22 hk22 s e
    have hB_66 : ∀ (l2 : Option Nat) (h : xm_H) (bc : Nat) (bs : Nat), B_X1_lightest_66 g l1 l2 l3 h bc bs k22 Q X → xm_W g Γ 66 [none, some (.int l1), some (va_rf l2), some (va_rf l3), none] [] h bc bs := by
      intro l2 h bc bs e
      unfold B_X1_lightest_66 at e
      refine xw_goto (show xm_Imp g Γ 66 (xi_goto 22) from xs_goto hΓ dX1_lightest_66 (by decide)) ?_
      have hq := hk22 _ e; exact hq
    have hB_63 : ∀ (l4 : Option Nat) (h : xm_H) (bc : Nat) (bs : Nat), B_X1_lightest_63 g l1 l3 l4 h bc bs k22 Q X → xm_W g Γ 63 [none, some (.int l1), none, some (va_rf l3), some (va_rf l4)] [] h bc bs := by
      intro l4 h bc bs e
      unfold B_X1_lightest_63 at e
      refine xw_aldo (x := l4) (show xm_Imp g Γ 63 (xi_ald 4 65) from xs_aload hΓ dX1_lightest_63) rfl ?_
      refine xw_asto (x := l4) (ls' := [none, some (.int l1), some (va_rf l4), some (va_rf l3), some (va_rf l4)]) (show xm_Imp g Γ 65 (xi_ast 2 66) from xs_astore_n hΓ dX1_lightest_65 (Nat.le_of_ble_eq_true rfl)) rfl ?_
      exact xm_lx (hB_66 _ _ _ _ e) (And.intro rfl (And.intro rfl (And.intro rfl (trivial))))
    unfold D_X1_lightest_22 at e
    refine xw_aldo (x := l3) (show xm_Imp g Γ 22 (xi_ald 3 23) from xs_aload_n hΓ dX1_lightest_22) rfl ?_
    obtain ⟨a13, ha13, e⟩ := e
    obtain ⟨c14, e0, e⟩ := e
    by_cases cc0 : c14 = 10
    · rw [if_pos cc0] at e
      obtain ⟨v15, e1, e⟩ := e
      refine xw_hv0 (o := l3) (xm_or1 (show xm_Imp g Γ 23 (xi_or (xi_vir g 10 M_X12_hasNext 1 0 28) (xi_vir g 16 M_J23_hasNext 1 0 28)) from xs_or (xs_invF hG hΓ k_X12_hasNext rfl (ci := 10) rfl q1655 q1401 q1399 ⟨by decide, by decide⟩ (by decide +kernel) q1397 q1396 q1402 q1400 q1398 dX1_lightest_23) (xs_invF hG hΓ k_J23_hasNext rfl (ci := 16) rfl q1655 q1407 q1405 ⟨by decide, by decide⟩ (by decide +kernel) q1397 q1396 q1408 q1406 q1404 dX1_lightest_23))) (by simp [xm_stk, xv_cat, xc_int, xc_long, xc_float, xc_double, xc_ref]) ha13 (xh_is_of e0 cc0) (fun Q X hQ => K_X12_hasNext hG a13 _ e1 hQ) ?_
      refine xw_if (show xm_Imp g Γ 28 (xi_if (fun x => x = 0) 69 31) from xs_if_eq hΓ dX1_lightest_28 (by decide)) (fun c => ?_) (fun c => ?_)
      · rw [if_pos c] at e
        refine xw_aldo (x := s.1) (show xm_Imp g Γ 69 (xi_ald 2 70) from xs_aload_n hΓ dX1_lightest_69) rfl ?_
        refine xw_ild (show xm_Imp g Γ 70 (xi_ild 1 71) from xs_iload_n hΓ dX1_lightest_70) rfl ?_
        obtain ⟨a16, ha16, e⟩ := e
        obtain ⟨_, e0, e⟩ := e
        obtain ⟨v17, e1, e⟩ := e
        refine xw_hv1 (o := s.1) (show xm_Imp g Γ 71 (xi_vir g 3 M_X4_property 8 1 74) from xs_invV hG hΓ k_X4_property rfl (ci := 3) rfl q1978 q1979 q1980 dX1_lightest_71) (by simp [xm_stk, xv_cat, xc_int, xc_long, xc_float, xc_double, xc_ref]) ha16 e0 (fun Q X hQ => K_X4_property hG a16 l1 _ e1 hQ) ?_
        exact xw_iret (show xm_Imp g Γ 74 (xi_iret .int _) from xs_ireturn hΓ rfl dX1_lightest_74) (xn_int _) ⟨_, rfl, e⟩
      · rw [if_neg c] at e
        refine xw_aldo (x := l3) (show xm_Imp g Γ 31 (xi_ald 3 32) from xs_aload_n hΓ dX1_lightest_31) rfl ?_
        obtain ⟨c18, e0, e⟩ := e
        by_cases cc0 : c18 = 10
        · rw [if_pos cc0] at e
          obtain ⟨m19, m20, ⟨em1, em2⟩, e⟩ := e
          refine xw_tvr0 (o := l3) (xm_or1 (show xm_Imp g Γ 32 (xi_or (xi_vir g 10 M_X12_next 9 0 37) (xi_vir g 16 M_J23_next 9 0 37)) from xs_or (xs_invF hG hΓ k_X12_next rfl (ci := 10) rfl q1657 q1416 q1414 ⟨by decide, by decide⟩ (by decide +kernel) q1413 q1412 q1417 q1415 q1398 dX1_lightest_32) (xs_invF hG hΓ k_J23_next rfl (ci := 16) rfl q1657 q1448 q1446 ⟨by decide, by decide⟩ (by decide +kernel) q1413 q1412 q1449 q1447 q1404 dX1_lightest_32))) (by simp [xm_stk, xv_cat, xc_int, xc_long, xc_float, xc_double, xc_ref]) ha13 (xh_is_of e0 cc0) em1 em2 (K_X12_next hG a13 _ _ _ e) (fun v22 h21 e => ?_)
          obtain ⟨_, e1, e⟩ := e
          refine xw_cast (o := v22) (show xm_Imp g Γ 37 (xi_cast "StringTableau$Row" 40) from xs_cast hG hΓ (xm_in 3 rfl) q1658 dX1_lightest_37) e1 ?_
          refine xw_asto (x := v22) (ls' := [none, some (.int l1), some (va_rf s.1), some (va_rf l3), some (va_rf v22)]) (show xm_Imp g Γ 40 (xi_ast 4 42) from xs_astore hΓ dX1_lightest_40 (Nat.le_of_ble_eq_true rfl)) ((xm_s1_o (o := l3) rfl).trans rfl) ?_
          refine xw_aldo (x := v22) (show xm_Imp g Γ 42 (xi_ald 4 44) from xs_aload hΓ dX1_lightest_42) rfl ?_
          obtain ⟨a23, ha23, e⟩ := e
          obtain ⟨_, e0, e⟩ := e
          obtain ⟨v24, e1, e⟩ := e
          refine xw_hv0 (o := v22) (show xm_Imp g Γ 44 (xi_vir g 3 M_X4_weight 2 0 47) from xs_invV hG hΓ k_X4_weight rfl (ci := 3) rfl q1659 q1660 q1661 dX1_lightest_44) (by simp [xm_stk, xv_cat, xc_int, xc_long, xc_float, xc_double, xc_ref]) ha23 e0 (fun Q X hQ => K_X4_weight hG a23 _ e1 hQ) ?_
          refine xw_if (show xm_Imp g Γ 47 (xi_if (fun x => x ≤ 0) 66 50) from xs_if_le hΓ dX1_lightest_47 (by decide)) (fun c => ?_) (fun c => ?_)
          · rw [if_pos c] at e
            exact xm_lx (hB_66 _ _ _ _ e) (And.intro rfl (And.intro rfl (And.intro rfl (trivial))))
          · rw [if_neg c] at e
            refine xw_aldo (x := s.1) (show xm_Imp g Γ 50 (xi_ald 2 51) from xs_aload_n hΓ dX1_lightest_50) rfl ?_
            refine xw_nul (o := s.1) (show xm_Imp g Γ 51 (xi_nul 63 54) from xs_ifnull hΓ dX1_lightest_51 (by decide)) (fun c => ?_) (fun c => ?_)
            · rw [if_pos c] at e
              exact xm_lx (hB_63 _ _ _ _ e) (And.intro rfl (And.intro rfl (And.intro rfl (trivial))))
            · rw [if_neg c] at e
              refine xw_aldo (x := v22) (show xm_Imp g Γ 54 (xi_ald 4 56) from xs_aload hΓ dX1_lightest_54) rfl ?_
              refine xw_aldo (x := s.1) (show xm_Imp g Γ 56 (xi_ald 2 57) from xs_aload_n hΓ dX1_lightest_56) rfl ?_
              obtain ⟨v25, e1, e⟩ := e
              refine xw_sv2 (show xm_Imp g Γ 57 (xi_inv g M_X1_isLighter 3 2 60) from xs_invS hG hΓ k_X1_isLighter rfl q2055 q2056 dX1_lightest_57) rfl (fun Q X hQ => K_X1_isLighter hG v22 s.1 _ e1 hQ) ?_
              refine xw_if (show xm_Imp g Γ 60 (xi_if (fun x => x = 0) 66 63) from xs_if_eq hΓ dX1_lightest_60 (by decide)) (fun c => ?_) (fun c => ?_)
              · rw [if_pos c] at e
                exact xm_lx (hB_66 _ _ _ _ e) (And.intro rfl (And.intro rfl (And.intro rfl (trivial))))
              · rw [if_neg c] at e
                exact xm_lx (hB_63 _ _ _ _ e) (And.intro rfl (And.intro rfl (And.intro rfl (trivial))))
        rw [if_neg cc0] at e
        by_cases cc1 : c18 = 16
        · rw [if_pos cc1] at e
          obtain ⟨v26, e1, e⟩ := e
          refine xw_hv0 (o := l3) (xm_or2 (show xm_Imp g Γ 32 (xi_or (xi_vir g 10 M_X12_next 9 0 37) (xi_vir g 16 M_J23_next 9 0 37)) from xs_or (xs_invF hG hΓ k_X12_next rfl (ci := 10) rfl q1657 q1416 q1414 ⟨by decide, by decide⟩ (by decide +kernel) q1413 q1412 q1417 q1415 q1398 dX1_lightest_32) (xs_invF hG hΓ k_J23_next rfl (ci := 16) rfl q1657 q1448 q1446 ⟨by decide, by decide⟩ (by decide +kernel) q1413 q1412 q1449 q1447 q1404 dX1_lightest_32))) (by simp [xm_stk, xv_cat, xc_int, xc_long, xc_float, xc_double, xc_ref]) ha13 (xh_is_of e0 cc1) (fun Q X hQ => K_J23_next hG a13 _ e1 hQ) ?_
          obtain ⟨_, e1, e⟩ := e
          refine xw_cast (o := v26.1) (show xm_Imp g Γ 37 (xi_cast "StringTableau$Row" 40) from xs_cast hG hΓ (xm_in 3 rfl) q1658 dX1_lightest_37) e1 ?_
          refine xw_asto (x := v26.1) (ls' := [none, some (.int l1), some (va_rf s.1), some (va_rf l3), some (va_rf v26.1)]) (show xm_Imp g Γ 40 (xi_ast 4 42) from xs_astore hΓ dX1_lightest_40 (Nat.le_of_ble_eq_true rfl)) ((xm_s1_o (o := l3) rfl).trans rfl) ?_
          refine xw_aldo (x := v26.1) (show xm_Imp g Γ 42 (xi_ald 4 44) from xs_aload hΓ dX1_lightest_42) rfl ?_
          obtain ⟨a27, ha27, e⟩ := e
          obtain ⟨_, e0, e⟩ := e
          obtain ⟨v28, e1, e⟩ := e
          refine xw_hv0 (o := v26.1) (show xm_Imp g Γ 44 (xi_vir g 3 M_X4_weight 2 0 47) from xs_invV hG hΓ k_X4_weight rfl (ci := 3) rfl q1659 q1660 q1661 dX1_lightest_44) (by simp [xm_stk, xv_cat, xc_int, xc_long, xc_float, xc_double, xc_ref]) ha27 e0 (fun Q X hQ => K_X4_weight hG a27 _ e1 hQ) ?_
          refine xw_if (show xm_Imp g Γ 47 (xi_if (fun x => x ≤ 0) 66 50) from xs_if_le hΓ dX1_lightest_47 (by decide)) (fun c => ?_) (fun c => ?_)
          · rw [if_pos c] at e
            exact xm_lx (hB_66 _ _ _ _ e) (And.intro rfl (And.intro rfl (And.intro rfl (trivial))))
          · rw [if_neg c] at e
            refine xw_aldo (x := s.1) (show xm_Imp g Γ 50 (xi_ald 2 51) from xs_aload_n hΓ dX1_lightest_50) rfl ?_
            refine xw_nul (o := s.1) (show xm_Imp g Γ 51 (xi_nul 63 54) from xs_ifnull hΓ dX1_lightest_51 (by decide)) (fun c => ?_) (fun c => ?_)
            · rw [if_pos c] at e
              exact xm_lx (hB_63 _ _ _ _ e) (And.intro rfl (And.intro rfl (And.intro rfl (trivial))))
            · rw [if_neg c] at e
              refine xw_aldo (x := v26.1) (show xm_Imp g Γ 54 (xi_ald 4 56) from xs_aload hΓ dX1_lightest_54) rfl ?_
              refine xw_aldo (x := s.1) (show xm_Imp g Γ 56 (xi_ald 2 57) from xs_aload_n hΓ dX1_lightest_56) rfl ?_
              obtain ⟨v29, e1, e⟩ := e
              refine xw_sv2 (show xm_Imp g Γ 57 (xi_inv g M_X1_isLighter 3 2 60) from xs_invS hG hΓ k_X1_isLighter rfl q2055 q2056 dX1_lightest_57) rfl (fun Q X hQ => K_X1_isLighter hG v26.1 s.1 _ e1 hQ) ?_
              refine xw_if (show xm_Imp g Γ 60 (xi_if (fun x => x = 0) 66 63) from xs_if_eq hΓ dX1_lightest_60 (by decide)) (fun c => ?_) (fun c => ?_)
              · rw [if_pos c] at e
                exact xm_lx (hB_66 _ _ _ _ e) (And.intro rfl (And.intro rfl (And.intro rfl (trivial))))
              · rw [if_neg c] at e
                exact xm_lx (hB_63 _ _ _ _ e) (And.intro rfl (And.intro rfl (And.intro rfl (trivial))))
        rw [if_neg cc1] at e
        exact e.elim
    rw [if_neg cc0] at e
    by_cases cc1 : c14 = 16
    · rw [if_pos cc1] at e
      obtain ⟨v30, e1, e⟩ := e
      refine xw_hv0 (o := l3) (xm_or2 (show xm_Imp g Γ 23 (xi_or (xi_vir g 10 M_X12_hasNext 1 0 28) (xi_vir g 16 M_J23_hasNext 1 0 28)) from xs_or (xs_invF hG hΓ k_X12_hasNext rfl (ci := 10) rfl q1655 q1401 q1399 ⟨by decide, by decide⟩ (by decide +kernel) q1397 q1396 q1402 q1400 q1398 dX1_lightest_23) (xs_invF hG hΓ k_J23_hasNext rfl (ci := 16) rfl q1655 q1407 q1405 ⟨by decide, by decide⟩ (by decide +kernel) q1397 q1396 q1408 q1406 q1404 dX1_lightest_23))) (by simp [xm_stk, xv_cat, xc_int, xc_long, xc_float, xc_double, xc_ref]) ha13 (xh_is_of e0 cc1) (fun Q X hQ => K_J23_hasNext hG a13 _ e1 hQ) ?_
      refine xw_if (show xm_Imp g Γ 28 (xi_if (fun x => x = 0) 69 31) from xs_if_eq hΓ dX1_lightest_28 (by decide)) (fun c => ?_) (fun c => ?_)
      · rw [if_pos c] at e
        refine xw_aldo (x := s.1) (show xm_Imp g Γ 69 (xi_ald 2 70) from xs_aload_n hΓ dX1_lightest_69) rfl ?_
        refine xw_ild (show xm_Imp g Γ 70 (xi_ild 1 71) from xs_iload_n hΓ dX1_lightest_70) rfl ?_
        obtain ⟨a31, ha31, e⟩ := e
        obtain ⟨_, e0, e⟩ := e
        obtain ⟨v32, e1, e⟩ := e
        refine xw_hv1 (o := s.1) (show xm_Imp g Γ 71 (xi_vir g 3 M_X4_property 8 1 74) from xs_invV hG hΓ k_X4_property rfl (ci := 3) rfl q1978 q1979 q1980 dX1_lightest_71) (by simp [xm_stk, xv_cat, xc_int, xc_long, xc_float, xc_double, xc_ref]) ha31 e0 (fun Q X hQ => K_X4_property hG a31 l1 _ e1 hQ) ?_
        exact xw_iret (show xm_Imp g Γ 74 (xi_iret .int _) from xs_ireturn hΓ rfl dX1_lightest_74) (xn_int _) ⟨_, rfl, e⟩
      · rw [if_neg c] at e
        refine xw_aldo (x := l3) (show xm_Imp g Γ 31 (xi_ald 3 32) from xs_aload_n hΓ dX1_lightest_31) rfl ?_
        obtain ⟨c33, e0, e⟩ := e
        by_cases cc0 : c33 = 10
        · rw [if_pos cc0] at e
          obtain ⟨m34, m35, ⟨em1, em2⟩, e⟩ := e
          refine xw_tvr0 (o := l3) (xm_or1 (show xm_Imp g Γ 32 (xi_or (xi_vir g 10 M_X12_next 9 0 37) (xi_vir g 16 M_J23_next 9 0 37)) from xs_or (xs_invF hG hΓ k_X12_next rfl (ci := 10) rfl q1657 q1416 q1414 ⟨by decide, by decide⟩ (by decide +kernel) q1413 q1412 q1417 q1415 q1398 dX1_lightest_32) (xs_invF hG hΓ k_J23_next rfl (ci := 16) rfl q1657 q1448 q1446 ⟨by decide, by decide⟩ (by decide +kernel) q1413 q1412 q1449 q1447 q1404 dX1_lightest_32))) (by simp [xm_stk, xv_cat, xc_int, xc_long, xc_float, xc_double, xc_ref]) ha13 (xh_is_of e0 cc0) em1 em2 (K_X12_next hG a13 _ _ _ e) (fun v37 h36 e => ?_)
          obtain ⟨_, e1, e⟩ := e
          refine xw_cast (o := v37) (show xm_Imp g Γ 37 (xi_cast "StringTableau$Row" 40) from xs_cast hG hΓ (xm_in 3 rfl) q1658 dX1_lightest_37) e1 ?_
          refine xw_asto (x := v37) (ls' := [none, some (.int l1), some (va_rf s.1), some (va_rf l3), some (va_rf v37)]) (show xm_Imp g Γ 40 (xi_ast 4 42) from xs_astore hΓ dX1_lightest_40 (Nat.le_of_ble_eq_true rfl)) ((xm_s1_o (o := l3) rfl).trans rfl) ?_
          refine xw_aldo (x := v37) (show xm_Imp g Γ 42 (xi_ald 4 44) from xs_aload hΓ dX1_lightest_42) rfl ?_
          obtain ⟨a38, ha38, e⟩ := e
          obtain ⟨_, e0, e⟩ := e
          obtain ⟨v39, e1, e⟩ := e
          refine xw_hv0 (o := v37) (show xm_Imp g Γ 44 (xi_vir g 3 M_X4_weight 2 0 47) from xs_invV hG hΓ k_X4_weight rfl (ci := 3) rfl q1659 q1660 q1661 dX1_lightest_44) (by simp [xm_stk, xv_cat, xc_int, xc_long, xc_float, xc_double, xc_ref]) ha38 e0 (fun Q X hQ => K_X4_weight hG a38 _ e1 hQ) ?_
          refine xw_if (show xm_Imp g Γ 47 (xi_if (fun x => x ≤ 0) 66 50) from xs_if_le hΓ dX1_lightest_47 (by decide)) (fun c => ?_) (fun c => ?_)
          · rw [if_pos c] at e
            exact xm_lx (hB_66 _ _ _ _ e) (And.intro rfl (And.intro rfl (And.intro rfl (trivial))))
          · rw [if_neg c] at e
            refine xw_aldo (x := s.1) (show xm_Imp g Γ 50 (xi_ald 2 51) from xs_aload_n hΓ dX1_lightest_50) rfl ?_
            refine xw_nul (o := s.1) (show xm_Imp g Γ 51 (xi_nul 63 54) from xs_ifnull hΓ dX1_lightest_51 (by decide)) (fun c => ?_) (fun c => ?_)
            · rw [if_pos c] at e
              exact xm_lx (hB_63 _ _ _ _ e) (And.intro rfl (And.intro rfl (And.intro rfl (trivial))))
            · rw [if_neg c] at e
              refine xw_aldo (x := v37) (show xm_Imp g Γ 54 (xi_ald 4 56) from xs_aload hΓ dX1_lightest_54) rfl ?_
              refine xw_aldo (x := s.1) (show xm_Imp g Γ 56 (xi_ald 2 57) from xs_aload_n hΓ dX1_lightest_56) rfl ?_
              obtain ⟨v40, e1, e⟩ := e
              refine xw_sv2 (show xm_Imp g Γ 57 (xi_inv g M_X1_isLighter 3 2 60) from xs_invS hG hΓ k_X1_isLighter rfl q2055 q2056 dX1_lightest_57) rfl (fun Q X hQ => K_X1_isLighter hG v37 s.1 _ e1 hQ) ?_
              refine xw_if (show xm_Imp g Γ 60 (xi_if (fun x => x = 0) 66 63) from xs_if_eq hΓ dX1_lightest_60 (by decide)) (fun c => ?_) (fun c => ?_)
              · rw [if_pos c] at e
                exact xm_lx (hB_66 _ _ _ _ e) (And.intro rfl (And.intro rfl (And.intro rfl (trivial))))
              · rw [if_neg c] at e
                exact xm_lx (hB_63 _ _ _ _ e) (And.intro rfl (And.intro rfl (And.intro rfl (trivial))))
        rw [if_neg cc0] at e
        by_cases cc1 : c33 = 16
        · rw [if_pos cc1] at e
          obtain ⟨v41, e1, e⟩ := e
          refine xw_hv0 (o := l3) (xm_or2 (show xm_Imp g Γ 32 (xi_or (xi_vir g 10 M_X12_next 9 0 37) (xi_vir g 16 M_J23_next 9 0 37)) from xs_or (xs_invF hG hΓ k_X12_next rfl (ci := 10) rfl q1657 q1416 q1414 ⟨by decide, by decide⟩ (by decide +kernel) q1413 q1412 q1417 q1415 q1398 dX1_lightest_32) (xs_invF hG hΓ k_J23_next rfl (ci := 16) rfl q1657 q1448 q1446 ⟨by decide, by decide⟩ (by decide +kernel) q1413 q1412 q1449 q1447 q1404 dX1_lightest_32))) (by simp [xm_stk, xv_cat, xc_int, xc_long, xc_float, xc_double, xc_ref]) ha13 (xh_is_of e0 cc1) (fun Q X hQ => K_J23_next hG a13 _ e1 hQ) ?_
          obtain ⟨_, e1, e⟩ := e
          refine xw_cast (o := v41.1) (show xm_Imp g Γ 37 (xi_cast "StringTableau$Row" 40) from xs_cast hG hΓ (xm_in 3 rfl) q1658 dX1_lightest_37) e1 ?_
          refine xw_asto (x := v41.1) (ls' := [none, some (.int l1), some (va_rf s.1), some (va_rf l3), some (va_rf v41.1)]) (show xm_Imp g Γ 40 (xi_ast 4 42) from xs_astore hΓ dX1_lightest_40 (Nat.le_of_ble_eq_true rfl)) ((xm_s1_o (o := l3) rfl).trans rfl) ?_
          refine xw_aldo (x := v41.1) (show xm_Imp g Γ 42 (xi_ald 4 44) from xs_aload hΓ dX1_lightest_42) rfl ?_
          obtain ⟨a42, ha42, e⟩ := e
          obtain ⟨_, e0, e⟩ := e
          obtain ⟨v43, e1, e⟩ := e
          refine xw_hv0 (o := v41.1) (show xm_Imp g Γ 44 (xi_vir g 3 M_X4_weight 2 0 47) from xs_invV hG hΓ k_X4_weight rfl (ci := 3) rfl q1659 q1660 q1661 dX1_lightest_44) (by simp [xm_stk, xv_cat, xc_int, xc_long, xc_float, xc_double, xc_ref]) ha42 e0 (fun Q X hQ => K_X4_weight hG a42 _ e1 hQ) ?_
          refine xw_if (show xm_Imp g Γ 47 (xi_if (fun x => x ≤ 0) 66 50) from xs_if_le hΓ dX1_lightest_47 (by decide)) (fun c => ?_) (fun c => ?_)
          · rw [if_pos c] at e
            exact xm_lx (hB_66 _ _ _ _ e) (And.intro rfl (And.intro rfl (And.intro rfl (trivial))))
          · rw [if_neg c] at e
            refine xw_aldo (x := s.1) (show xm_Imp g Γ 50 (xi_ald 2 51) from xs_aload_n hΓ dX1_lightest_50) rfl ?_
            refine xw_nul (o := s.1) (show xm_Imp g Γ 51 (xi_nul 63 54) from xs_ifnull hΓ dX1_lightest_51 (by decide)) (fun c => ?_) (fun c => ?_)
            · rw [if_pos c] at e
              exact xm_lx (hB_63 _ _ _ _ e) (And.intro rfl (And.intro rfl (And.intro rfl (trivial))))
            · rw [if_neg c] at e
              refine xw_aldo (x := v41.1) (show xm_Imp g Γ 54 (xi_ald 4 56) from xs_aload hΓ dX1_lightest_54) rfl ?_
              refine xw_aldo (x := s.1) (show xm_Imp g Γ 56 (xi_ald 2 57) from xs_aload_n hΓ dX1_lightest_56) rfl ?_
              obtain ⟨v44, e1, e⟩ := e
              refine xw_sv2 (show xm_Imp g Γ 57 (xi_inv g M_X1_isLighter 3 2 60) from xs_invS hG hΓ k_X1_isLighter rfl q2055 q2056 dX1_lightest_57) rfl (fun Q X hQ => K_X1_isLighter hG v41.1 s.1 _ e1 hQ) ?_
              refine xw_if (show xm_Imp g Γ 60 (xi_if (fun x => x = 0) 66 63) from xs_if_eq hΓ dX1_lightest_60 (by decide)) (fun c => ?_) (fun c => ?_)
              · rw [if_pos c] at e
                exact xm_lx (hB_66 _ _ _ _ e) (And.intro rfl (And.intro rfl (And.intro rfl (trivial))))
              · rw [if_neg c] at e
                exact xm_lx (hB_63 _ _ _ _ e) (And.intro rfl (And.intro rfl (And.intro rfl (trivial))))
        rw [if_neg cc1] at e
        exact e.elim
    rw [if_neg cc1] at e
    exact e.elim
  unfold F_X1_lightest at e
  refine xw_ild (show xm_Imp g Γ 0 (xi_ild 1 1) from xs_iload_n hΓ dX1_lightest_0) rfl ?_
  refine xw_psh (v := (.int (0))) (show xm_Imp g Γ 1 (xi_psh (.int (0)) 2) from xs_iconst hΓ dX1_lightest_1 (by decide)) ?_
  refine xw_psh (v := (.int (3))) (show xm_Imp g Γ 2 (xi_psh (.int (3)) 3) from xs_iconst hΓ dX1_lightest_2 (by decide)) ?_
  refine xw_sv3 (show xm_Imp g Γ 3 (xi_inv g M_X1_inRange 1 3 6) from xs_invS hG hΓ k_X1_inRange rfl q387 q388 dX1_lightest_3) rfl (fun Q X hQ => K_X1_inRange hG p1 0 3 rfl hQ) ?_
  obtain ⟨m1, m2, ⟨em1, em2⟩, e⟩ := e
  refine xw_tXsu1 (show xm_Imp g Γ 6 (xi_invX g M_X1_checkIndex 8 1 9 X) from xs_invSX hG hΓ k_X1_checkIndex rfl rfl q1837 q1838 dX1_lightest_6) rfl em1 em2 (K_X1_checkIndex hG (F_X1_inRange p1 0 3) _ _ _ e) (fun h3 e => ?_)
  refine xw_psh (v := .null) (show xm_Imp g Γ 9 (xi_psh .null 10) from xs_null hΓ dX1_lightest_9) ?_
  refine xw_asto (x := none) (ls' := [some (.ref p0), some (.int p1), some (va_rf none), none, none]) (show xm_Imp g Γ 10 (xi_ast 2 11) from xs_astore_n hΓ dX1_lightest_10 (Nat.le_of_ble_eq_true rfl)) rfl ?_
  refine xw_ald (show xm_Imp g Γ 11 (xi_ald 0 12) from xs_aload_n hΓ dX1_lightest_11) rfl ?_
  obtain ⟨v5, e1, e⟩ := e
  refine xw_gr1 (o := (some p0)) (show xm_Imp g Γ 12 (xi_get 0 0 15) from xs_get hG hΓ (ci := 0) (kf := 0) rfl (Nat.le_of_ble_eq_true rfl) q343 dX1_lightest_12) rfl e1 ?_
  obtain ⟨a6, ha6, e⟩ := e
  obtain ⟨v7, e1, e⟩ := e
  refine xw_gr1 (o := v5) (show xm_Imp g Γ 15 (xi_get 1 0 18) from xs_getN hG hΓ (ci := 1) (kf := 0) rfl (Nat.le_of_ble_eq_true rfl) q276 dX1_lightest_15) ha6 e1 ?_
  obtain ⟨a8, ha8, e⟩ := e
  obtain ⟨_, e0, e⟩ := e
  obtain ⟨m9, m10, ⟨em1, em2⟩, e⟩ := e
  refine xw_tvr0 (o := v7) (show xm_Imp g Γ 18 (xi_vir g 2 M_X3_iterator 3 0 21) from xs_invV hG hΓ k_X3_iterator rfl (ci := 2) rfl q1637 q1638 q1639 dX1_lightest_18) (by simp [xm_stk, xv_cat, xc_int, xc_long, xc_float, xc_double, xc_ref]) ha8 e0 em1 em2 (K_X3_iterator hG a8 _ _ _ e) (fun v12 h11 e => ?_)
  refine xw_asto (x := v12) (ls' := [some (.ref p0), some (.int p1), some (va_rf none), some (va_rf v12), none]) (show xm_Imp g Γ 21 (xi_ast 3 22) from xs_astore_n hΓ dX1_lightest_21 (Nat.le_of_ble_eq_true rfl)) ((xm_s1_o (o := none) rfl).trans rfl) ?_
  exact xm_lx (hL_22 _ _ _ e) (And.intro rfl (And.intro rfl (And.intro rfl (trivial))))
noncomputable def B_X1_checkMove_36 (g : xm_G) (l0 : Nat) (l3 : Int32) (l4 : Int32) (s0 : Int32) (h : xm_H) (bc : Nat) (bs : Nat) (Q : xm_H → Prop) (X : xm_X) : Prop :=
 xt_c bc bs (fun m1 m2 => F_X1_checkIndex g s0 h m1 m2 (fun h3 =>
 xt_b (xh_is 0 h3 l0) (fun _ =>
 xt_c (bc - m1) (bs - m2) (fun m5 m6 => F_X1_checkMasks g l0 l3 l4 h3 m5 m6 (fun h7 =>
 Q h7) X))) X)
noncomputable def B_X1_checkMove_35 (g : xm_G) (l0 : Nat) (l3 : Int32) (l4 : Int32) (h : xm_H) (bc : Nat) (bs : Nat) (Q : xm_H → Prop) (X : xm_X) : Prop :=
 B_X1_checkMove_36 g l0 l3 l4 0 h bc bs Q X
noncomputable def F_X1_checkMove (g : xm_G) (p0 : Nat) (p1 : Int32) (p2 : Int32) (p3 : Int32) (p4 : Int32) (p5 : Int32) (h : xm_H) (bc : Nat) (bs : Nat) (Q : xm_H → Prop) (X : xm_X) : Prop :=
 (if p1 < 0 then
 B_X1_checkMove_35 g p0 p3 p4 h bc bs Q X else
 xt_b (xh_fr [(0, 1)] h p0) (fun v9 =>
 xt_b v9 (fun a10 =>
 xt_b (xh_is 12 h a10) (fun _ =>
 xt_b (F_J2_size g a10 h) (fun v11 =>
 B_X1_checkMove_36 g p0 p3 p4 (if (F_X1_inRange p2 p1 v11) = 0 then 0 else (if (F_X1_inRange p5 0 2) = 0 then 0 else 1)) h bc bs Q X)))))
set_option maxHeartbeats 4000000 in
theorem K_X1_checkMove {g : xm_G} (hG : xm_Gw g) (p0 : Nat) (p1 : Int32) (p2 : Int32) (p3 : Int32) (p4 : Int32) (p5 : Int32) (h : xm_H) (bc : Nat) (bs : Nat) {Q : xm_H → Prop} {X : xm_X} (e : F_X1_checkMove g p0 p1 p2 p3 p4 p5 h bc bs Q X) : xm_Run g M_X1_checkMove 10 [.ref p0, .int p1, .int p2, .int p3, .int p4, .int p5] h bc bs (fun v h' => v = none ∧ Q h') X := by
  refine xm_Run.of pn_StringTableau (Nat.le_of_ble_eq_true rfl) (fun Γ hΓ => ?_)
  show xm_W g Γ 0 [some (.ref p0), some (.int p1), some (.int p2), some (.int p3), some (.int p4), some (.int p5)] [] h bc bs
  have hB_36 : ∀ (l0 : Nat) (l3 : Int32) (l4 : Int32) (s0 : Int32) (h : xm_H) (bc : Nat) (bs : Nat), B_X1_checkMove_36 g l0 l3 l4 s0 h bc bs Q X → xm_W g Γ 36 [some (.ref l0), none, none, some (.int l3), some (.int l4), none] [.int s0] h bc bs := by
    intro l0 l3 l4 s0 h bc bs e
    unfold B_X1_checkMove_36 at e
    obtain ⟨m1, m2, ⟨em1, em2⟩, e⟩ := e
    refine xw_tXsu1 (show xm_Imp g Γ 36 (xi_invX g M_X1_checkIndex 8 1 39 X) from xs_invSX hG hΓ k_X1_checkIndex rfl rfl q1837 q1838 dX1_checkMove_36) rfl em1 em2 (K_X1_checkIndex hG s0 _ _ _ e) (fun h3 e => ?_)
    refine xw_ald (show xm_Imp g Γ 39 (xi_ald 0 40) from xs_aload_n hΓ dX1_checkMove_39) rfl ?_
    refine xw_ild (show xm_Imp g Γ 40 (xi_ild 3 41) from xs_iload_n hΓ dX1_checkMove_40) rfl ?_
    refine xw_ild (show xm_Imp g Γ 41 (xi_ild 4 43) from xs_iload hΓ dX1_checkMove_41) rfl ?_
    obtain ⟨_, e0, e⟩ := e
    obtain ⟨m5, m6, ⟨em1, em2⟩, e⟩ := e
    refine xw_tXvu2 (o := (some l0)) (show xm_Imp g Γ 43 (xi_virX g 0 M_X1_checkMasks 9 2 46 X) from xs_invVX hG hΓ k_X1_checkMasks rfl rfl (ci := 0) rfl q1885 q1887 qs38 dX1_checkMove_43) rfl rfl e0 em1 em2 (K_X1_checkMasks hG l0 l3 l4 _ _ _ e) (fun h7 e => ?_)
    exact xw_vret (show xm_Imp g Γ 46 (xi_vret _) from xs_return hΓ rfl dX1_checkMove_46) ⟨rfl, e⟩
  have hB_35 : ∀ (l0 : Nat) (l3 : Int32) (l4 : Int32) (h : xm_H) (bc : Nat) (bs : Nat), B_X1_checkMove_35 g l0 l3 l4 h bc bs Q X → xm_W g Γ 35 [some (.ref l0), none, none, some (.int l3), some (.int l4), none] [] h bc bs := by
    intro l0 l3 l4 h bc bs e
    unfold B_X1_checkMove_35 at e
    refine xw_psh (v := (.int (0))) (show xm_Imp g Γ 35 (xi_psh (.int (0)) 36) from xs_iconst hΓ dX1_checkMove_35 (by decide)) ?_
    exact hB_36 _ _ _ _ _ _ _ e
  unfold F_X1_checkMove at e
  refine xw_ild (show xm_Imp g Γ 0 (xi_ild 1 1) from xs_iload_n hΓ dX1_checkMove_0) rfl ?_
  refine xw_if (show xm_Imp g Γ 1 (xi_if (fun x => x < 0) 35 4) from xs_if_lt hΓ dX1_checkMove_1 (by decide)) (fun c => ?_) (fun c => ?_)
  · rw [if_pos c] at e
    exact xm_lx (hB_35 _ _ _ _ _ _ e) (And.intro rfl (And.intro rfl (And.intro rfl (trivial))))
  · rw [if_neg c] at e
    refine xw_ild (show xm_Imp g Γ 4 (xi_ild 2 5) from xs_iload_n hΓ dX1_checkMove_4) rfl ?_
    refine xw_ild (show xm_Imp g Γ 5 (xi_ild 1 6) from xs_iload_n hΓ dX1_checkMove_5) rfl ?_
    refine xw_ald (show xm_Imp g Γ 6 (xi_ald 0 7) from xs_aload_n hΓ dX1_checkMove_6) rfl ?_
    obtain ⟨v9, e1, e⟩ := e
    refine xw_gr1 (o := (some p0)) (show xm_Imp g Γ 7 (xi_get 0 1 10) from xs_get hG hΓ (ci := 0) (kf := 1) rfl (Nat.le_of_ble_eq_true rfl) q346 dX1_checkMove_7) rfl e1 ?_
    obtain ⟨a10, ha10, e⟩ := e
    obtain ⟨_, e0, e⟩ := e
    obtain ⟨v11, e1, e⟩ := e
    refine xw_hv0 (o := v9) (show xm_Imp g Γ 10 (xi_vir g 12 M_J2_size 1 0 15) from xs_invF hG hΓ k_J2_size rfl (ci := 12) rfl q1126 q906 q904 ⟨by decide, by decide⟩ (by decide +kernel) q902 q901 q907 q905 q903 dX1_checkMove_10) (by simp [xm_stk, xv_cat, xc_int, xc_long, xc_float, xc_double, xc_ref]) ha10 e0 (fun Q X hQ => K_J2_size hG a10 _ e1 hQ) ?_
    refine xw_sv3 (show xm_Imp g Γ 15 (xi_inv g M_X1_inRange 1 3 18) from xs_invS hG hΓ k_X1_inRange rfl q387 q388 dX1_checkMove_15) rfl (fun Q X hQ => K_X1_inRange hG p2 p1 v11 rfl hQ) ?_
    refine xw_if (show xm_Imp g Γ 18 (xi_if (fun x => x = 0) 35 21) from xs_if_eq hΓ dX1_checkMove_18 (by decide)) (fun c => ?_) (fun c => ?_)
    · rw [if_pos c] at e
      refine xw_psh (v := (.int (0))) (show xm_Imp g Γ 35 (xi_psh (.int (0)) 36) from xs_iconst hΓ dX1_checkMove_35 (by decide)) ?_
      exact xm_lx (hB_36 _ _ _ _ _ _ _ e) (And.intro rfl (And.intro rfl (And.intro rfl (trivial))))
    · rw [if_neg c] at e
      refine xw_ild (show xm_Imp g Γ 21 (xi_ild 5 23) from xs_iload hΓ dX1_checkMove_21) rfl ?_
      refine xw_psh (v := (.int (0))) (show xm_Imp g Γ 23 (xi_psh (.int (0)) 24) from xs_iconst hΓ dX1_checkMove_23 (by decide)) ?_
      refine xw_psh (v := (.int (2))) (show xm_Imp g Γ 24 (xi_psh (.int (2)) 25) from xs_iconst hΓ dX1_checkMove_24 (by decide)) ?_
      refine xw_sv3 (show xm_Imp g Γ 25 (xi_inv g M_X1_inRange 1 3 28) from xs_invS hG hΓ k_X1_inRange rfl q387 q388 dX1_checkMove_25) rfl (fun Q X hQ => K_X1_inRange hG p5 0 2 rfl hQ) ?_
      refine xw_if (show xm_Imp g Γ 28 (xi_if (fun x => x = 0) 35 31) from xs_if_eq hΓ dX1_checkMove_28 (by decide)) (fun c => ?_) (fun c => ?_)
      · rw [if_pos c] at e
        refine xw_psh (v := (.int (0))) (show xm_Imp g Γ 35 (xi_psh (.int (0)) 36) from xs_iconst hΓ dX1_checkMove_35 (by decide)) ?_
        exact xm_lx (hB_36 _ _ _ _ _ _ _ e) (And.intro rfl (And.intro rfl (And.intro rfl (trivial))))
      · rw [if_neg c] at e
        refine xw_psh (v := (.int (1))) (show xm_Imp g Γ 31 (xi_psh (.int (1)) 32) from xs_iconst hΓ dX1_checkMove_31 (by decide)) ?_
        refine xw_goto (show xm_Imp g Γ 32 (xi_goto 36) from xs_goto hΓ dX1_checkMove_32 (by decide)) ?_
        exact xm_lx (hB_36 _ _ _ _ _ _ _ e) (And.intro rfl (And.intro rfl (And.intro rfl (trivial))))
noncomputable def B_X10_change_18 (g : xm_G) (l0 : Nat) (l1 : Option Nat) (s0 : Int32) (h : xm_H) : Option (xm_H) :=
 xo_b (F_X1_gateOf g s0 h) (fun v2 =>
 xo_b (xh_fi [(8, 1)] h l0) (fun v3 =>
 xo_b (xh_fi [(8, 2)] h l0) (fun v4 =>
 xo_b v2 (fun a5 =>
 xo_b (F_LAM_on g a5 l1 v3 v4 h) (fun v6 =>
 some v6)))))
noncomputable def F_X10_change (g : xm_G) (p0 : Nat) (p1 : Option Nat) (p2 : Int32) (h : xm_H) : Option (xm_H) :=
 (if p2 = 0 then
 xo_b (xh_fi [(7, 0), (8, 0)] h p0) (fun v1 =>
 B_X10_change_18 g p0 p1 v1 h) else
 xo_b (xh_fi [(7, 0), (8, 0)] h p0) (fun v7 =>
 B_X10_change_18 g p0 p1 (F_X1_inverseOf v7) h))
set_option maxHeartbeats 4000000 in
theorem K_X10_change {g : xm_G} (hG : xm_Gw g) (p0 : Nat) (p1 : Option Nat) (p2 : Int32) (h : xm_H) {o : xm_H} (e : F_X10_change g p0 p1 p2 h = some o) {Q : xm_P} {X : xm_X} (hQ : Q none o) : xm_Run g M_X10_change 7 [.ref p0, va_rf p1, .int p2] h 0 0 Q X := by
  refine xm_Run.of2 (ls := [some (.ref p0), some (va_rf p1), some (.int p2)]) pn_StringTableau_GateOperation (by cases p1 <;> exact Nat.le_of_ble_eq_true rfl) (by cases p1 <;> rfl) (fun Γ hΓ => ?_)
  obtain ⟨P0, hP0, hp⟩ : ∃ P : xm_H → Prop, (∀ o, P o → Q none o) ∧ P o := ⟨fun o => Q none o, fun _ h => h, hQ⟩
  clear hQ
  show xm_W g Γ 0 [some (.ref p0), some (va_rf p1), some (.int p2)] [] h 0 0
  have hB_18 : ∀ (l0 : Nat) (l1 : Option Nat) (s0 : Int32) (h : xm_H) (o : xm_H), B_X10_change_18 g l0 l1 s0 h = some o → P0 o → xm_W g Γ 18 [some (.ref l0), some (va_rf l1), none] [.int s0] h 0 0 := by
    intro l0 l1 s0 h o e hp
    unfold B_X10_change_18 at e
    obtain ⟨v2, e1, e⟩ := xo_b_s e
    refine xw_sv1 (show xm_Imp g Γ 18 (xi_inv g M_X1_gateOf 6 1 21) from xs_invSN hG hΓ k_X1_gateOf rfl q2079 q1481 dX10_change_18) rfl (fun Q X hQ => K_X1_gateOf hG s0 _ e1 hQ) ?_
    refine xw_aldo (x := l1) (show xm_Imp g Γ 21 (xi_ald 1 22) from xs_aload_n hΓ dX10_change_21) rfl ?_
    refine xw_ald (show xm_Imp g Γ 22 (xi_ald 0 23) from xs_aload_n hΓ dX10_change_22) rfl ?_
    obtain ⟨v3, e1, e⟩ := xo_b_s e
    refine xw_gi1 (o := (some l0)) (show xm_Imp g Γ 23 (xi_get 8 1 26) from xs_get hG hΓ (ci := 8) (kf := 1) rfl (Nat.le_of_ble_eq_true rfl) q1098 dX10_change_23) rfl e1 ?_
    refine xw_ald (show xm_Imp g Γ 26 (xi_ald 0 27) from xs_aload_n hΓ dX10_change_26) rfl ?_
    obtain ⟨v4, e1, e⟩ := xo_b_s e
    refine xw_gi1 (o := (some l0)) (show xm_Imp g Γ 27 (xi_get 8 2 30) from xs_get hG hΓ (ci := 8) (kf := 2) rfl (Nat.le_of_ble_eq_true rfl) q1099 dX10_change_27) rfl e1 ?_
    obtain ⟨a5, ha5, e⟩ := xo_b_s e
    obtain ⟨v6, e1, e⟩ := xo_b_s e
    refine xw_lamu3 (o := v2) (show xm_Imp g Γ 30 (xi_lam g xL_ons 3 35) from xs_lamon hG hΓ rfl q2081 dX10_change_30) (by simp [xm_stk, xv_cat, xc_int, xc_long, xc_float, xc_double, xc_ref]) ha5 (K_LAM_on hG _ _ _ _ _ e1) ?_
    exact xw_vret (show xm_Imp g Γ 35 (xi_vret _) from xs_return hΓ rfl dX10_change_35) (hP0 _ (xl_fin e hp))
  unfold F_X10_change at e
  refine xw_ild (show xm_Imp g Γ 0 (xi_ild 2 1) from xs_iload_n hΓ dX10_change_0) rfl ?_
  refine xw_if (show xm_Imp g Γ 1 (xi_if (fun x => x = 0) 14 4) from xs_if_eq hΓ dX10_change_1 (by decide)) (fun c => ?_) (fun c => ?_)
  · rw [if_pos c] at e
    refine xw_ald (show xm_Imp g Γ 14 (xi_ald 0 15) from xs_aload_n hΓ dX10_change_14) rfl ?_
    obtain ⟨v1, e1, e⟩ := xo_b_s e
    refine xw_gi2 (o := (some p0)) (xm_or1 (show xm_Imp g Γ 15 (xi_or (xi_get 7 0 18) (xi_get 8 0 18)) from xs_or (xs_getN hG hΓ (ci := 7) (kf := 0) rfl (Nat.le_of_ble_eq_true rfl) q1001 dX10_change_15) (xs_getN hG hΓ (ci := 8) (kf := 0) rfl (Nat.le_of_ble_eq_true rfl) q1001 dX10_change_15))) (xm_or2 (show xm_Imp g Γ 15 (xi_or (xi_get 7 0 18) (xi_get 8 0 18)) from xs_or (xs_getN hG hΓ (ci := 7) (kf := 0) rfl (Nat.le_of_ble_eq_true rfl) q1001 dX10_change_15) (xs_getN hG hΓ (ci := 8) (kf := 0) rfl (Nat.le_of_ble_eq_true rfl) q1001 dX10_change_15))) rfl e1 ?_
    exact xm_lx (hB_18 _ _ _ _ _ e hp) (And.intro rfl (And.intro rfl (trivial)))
  · rw [if_neg c] at e
    refine xw_ald (show xm_Imp g Γ 4 (xi_ald 0 5) from xs_aload_n hΓ dX10_change_4) rfl ?_
    obtain ⟨v7, e1, e⟩ := xo_b_s e
    refine xw_gi2 (o := (some p0)) (xm_or1 (show xm_Imp g Γ 5 (xi_or (xi_get 7 0 8) (xi_get 8 0 8)) from xs_or (xs_getN hG hΓ (ci := 7) (kf := 0) rfl (Nat.le_of_ble_eq_true rfl) q1001 dX10_change_5) (xs_getN hG hΓ (ci := 8) (kf := 0) rfl (Nat.le_of_ble_eq_true rfl) q1001 dX10_change_5))) (xm_or2 (show xm_Imp g Γ 5 (xi_or (xi_get 7 0 8) (xi_get 8 0 8)) from xs_or (xs_getN hG hΓ (ci := 7) (kf := 0) rfl (Nat.le_of_ble_eq_true rfl) q1001 dX10_change_5) (xs_getN hG hΓ (ci := 8) (kf := 0) rfl (Nat.le_of_ble_eq_true rfl) q1001 dX10_change_5))) rfl e1 ?_
    refine xw_sv1 (show xm_Imp g Γ 8 (xi_inv g M_X1_inverseOf 1 1 11) from xs_invSN hG hΓ k_X1_inverseOf rfl q2078 q1934 dX10_change_8) rfl (fun Q X hQ => K_X1_inverseOf hG v7 rfl hQ) ?_
    refine xw_goto (show xm_Imp g Γ 11 (xi_goto 18) from xs_goto hΓ dX10_change_11 (by decide)) ?_
    exact xm_lx (hB_18 _ _ _ _ _ e hp) (And.intro rfl (And.intro rfl (trivial)))
noncomputable def B_X1_moved_78 (g : xm_G) (l0 : Nat) (l1 : Int32) (l2 : Int32) (l5 : Int32) (l6 : Option Nat) (l7 : Int32) (s0 : Option Nat) (s1 : Int32) (h : xm_H) (bc : Nat) (bs : Nat) (k48 : Int32 × xm_H × Nat × Nat → Prop) (Q : Option Nat → xm_H → Prop) (X : xm_X) : Prop :=
 xt_b s0 (fun a7 =>
 xt_b (xh_is 12 h a7) (fun _ =>
 xt_b (F_J2_get g a7 s1 h) (fun v8 =>
 xt_b (xh_cast "StringTableau$GateOperation" h v8) (fun _ =>
 xt_b v8 (fun a9 =>
 xt_b (xh_is 8 h a9) (fun _ =>
 xt_b (F_X10_change g a9 l6 l5 h) (fun v10 =>
 k48 ((l7 + 1), v10, bc, bs))))))))
noncomputable def D_X1_moved_48 (g : xm_G) (l0 : Nat) (l1 : Int32) (l2 : Int32) (l5 : Int32) (l6 : Option Nat) (Q : Option Nat → xm_H → Prop) (X : xm_X) (k48 : Int32 × xm_H × Nat × Nat → Prop) (s : Int32 × xm_H × Nat × Nat) : Prop :=
 (if (l2 - l1) ≤ s.1 then
 Q l6 s.2.1 else
 xt_b (xh_fr [(0, 1)] s.2.1 l0) (fun v6 =>
 B_X1_moved_78 g l0 l1 l2 l5 l6 s.1 v6 (if l5 = 0 then l1 + s.1 else (l2 - 1) - s.1) s.2.1 s.2.2.1 s.2.2.2 k48 Q X))
noncomputable def L_X1_moved_48 (g : xm_G) (l0 : Nat) (l1 : Int32) (l2 : Int32) (l5 : Int32) (l6 : Option Nat) (Q : Option Nat → xm_H → Prop) (X : xm_X) (s : Int32 × xm_H × Nat × Nat) : Prop := xt_loop (D_X1_moved_48 g l0 l1 l2 l5 l6 Q X) s
noncomputable def D_X1_moved_3 (g : xm_G) (l0 : Nat) (l1 : Int32) (l2 : Int32) (l3 : Int32) (l4 : Int32) (l5 : Int32) (Q : Option Nat → xm_H → Prop) (X : xm_X) (k3 : Int32 × xm_H × Nat × Nat → Prop) (s : Int32 × xm_H × Nat × Nat) : Prop :=
 (if l2 ≤ s.1 then
 xt_new s.2.1 s.2.2.1 s.2.2.2 3 (.inr (3, [.int 0, .int 0, .int 0])) (fun a1 h2 b3 b4 =>
 xt_b (F_X4_init g a1 l3 l4 0 h2) (fun v5 =>
 L_X1_moved_48 g l0 l1 l2 l5 (some a1) Q X (0, v5, b3, b4))) else
 xt_b (xh_fr [(0, 1)] s.2.1 l0) (fun v11 =>
 xt_b v11 (fun a12 =>
 xt_b (xh_is 12 s.2.1 a12) (fun _ =>
 xt_b (F_J2_get g a12 s.1 s.2.1) (fun v13 =>
 xt_b (xh_inst "StringTableau$GateOperation" s.2.1 v13) (fun v14 =>
 xt_c s.2.2.1 s.2.2.2 (fun m15 m16 => F_X1_checkState g v14 s.2.1 m15 m16 (fun h17 =>
 k3 ((s.1 + 1), h17, (s.2.2.1 - m15), (s.2.2.2 - m16))) X)))))))
noncomputable def L_X1_moved_3 (g : xm_G) (l0 : Nat) (l1 : Int32) (l2 : Int32) (l3 : Int32) (l4 : Int32) (l5 : Int32) (Q : Option Nat → xm_H → Prop) (X : xm_X) (s : Int32 × xm_H × Nat × Nat) : Prop := xt_loop (D_X1_moved_3 g l0 l1 l2 l3 l4 l5 Q X) s
noncomputable def F_X1_moved (g : xm_G) (p0 : Nat) (p1 : Int32) (p2 : Int32) (p3 : Int32) (p4 : Int32) (p5 : Int32) (h : xm_H) (bc : Nat) (bs : Nat) (Q : Option Nat → xm_H → Prop) (X : xm_X) : Prop :=
 L_X1_moved_3 g p0 p1 p2 p3 p4 p5 Q X (p1, h, bc, bs)
set_option maxHeartbeats 4000000 in
theorem K_X1_moved {g : xm_G} (hG : xm_Gw g) (p0 : Nat) (p1 : Int32) (p2 : Int32) (p3 : Int32) (p4 : Int32) (p5 : Int32) (h : xm_H) (bc : Nat) (bs : Nat) {Q : Option Nat → xm_H → Prop} {X : xm_X} (e : F_X1_moved g p0 p1 p2 p3 p4 p5 h bc bs Q X) : xm_Run g M_X1_moved 11 [.ref p0, .int p1, .int p2, .int p3, .int p4, .int p5] h bc bs (fun v h' => ∃ r, v = some (va_rf r) ∧ Q r h') X := by
  refine xm_Run.of pn_StringTableau (Nat.le_of_ble_eq_true rfl) (fun Γ hΓ => ?_)
  show xm_W g Γ 0 [some (.ref p0), some (.int p1), some (.int p2), some (.int p3), some (.int p4), some (.int p5), none, none, none] [] h bc bs
  have hL_48 : ∀ (l0 : Nat) (l1 : Int32) (l2 : Int32) (l5 : Int32) (l6 : Option Nat) (s : Int32 × xm_H × Nat × Nat), L_X1_moved_48 g l0 l1 l2 l5 l6 Q X s → xm_W g Γ 48 [some (.ref l0), some (.int l1), some (.int l2), none, none, some (.int l5), some (va_rf l6), some (.int s.1), none] [] s.2.1 s.2.2.1 s.2.2.2 := by
    intro l0 l1 l2 l5 l6
    refine xt_rule (WS := fun s : Int32 × xm_H × Nat × Nat => xm_W g Γ 48 [some (.ref l0), some (.int l1), some (.int l2), none, none, some (.int l5), some (va_rf l6), some (.int s.1), none] [] s.2.1 s.2.2.1 s.2.2.2) ?_
    intro k48 hk48 s e
    have hB_78 : ∀ (l7 : Int32) (s0 : Option Nat) (s1 : Int32) (h : xm_H) (bc : Nat) (bs : Nat), B_X1_moved_78 g l0 l1 l2 l5 l6 l7 s0 s1 h bc bs k48 Q X → xm_W g Γ 78 [some (.ref l0), some (.int l1), some (.int l2), none, none, some (.int l5), some (va_rf l6), some (.int l7), none] [.int s1, va_rf s0] h bc bs := by
      intro l7 s0 s1 h bc bs e
      unfold B_X1_moved_78 at e
      obtain ⟨a7, ha7, e⟩ := e
      obtain ⟨_, e0, e⟩ := e
      obtain ⟨v8, e1, e⟩ := e
      refine xw_hv1 (o := s0) (show xm_Imp g Γ 78 (xi_vir g 12 M_J2_get 10 1 83) from xs_invF hG hΓ k_J2_get rfl (ci := 12) rfl q1148 q1153 q1151 ⟨by decide, by decide⟩ (by decide +kernel) q1150 q1149 q1154 q1152 q903 dX1_moved_78) (by simp [xm_stk, xv_cat, xc_int, xc_long, xc_float, xc_double, xc_ref]) ha7 e0 (fun Q X hQ => K_J2_get hG a7 s1 _ e1 hQ) ?_
      obtain ⟨_, e1, e⟩ := e
      refine xw_cast (o := v8) (show xm_Imp g Γ 83 (xi_cast "StringTableau$GateOperation" 86) from xs_cast hG hΓ (xm_in 8 rfl) q2073 dX1_moved_83) e1 ?_
      refine xw_asto (x := v8) (ls' := [some (.ref l0), some (.int l1), some (.int l2), none, none, some (.int l5), some (va_rf l6), some (.int l7), some (va_rf v8)]) (show xm_Imp g Γ 86 (xi_ast 8 88) from xs_astore hΓ dX1_moved_86 (Nat.le_of_ble_eq_true rfl)) rfl ?_
      refine xw_aldo (x := v8) (show xm_Imp g Γ 88 (xi_ald 8 90) from xs_aload hΓ dX1_moved_88) rfl ?_
      refine xw_aldo (x := l6) (show xm_Imp g Γ 90 (xi_ald 6 92) from xs_aload hΓ dX1_moved_90) rfl ?_
      refine xw_ild (show xm_Imp g Γ 92 (xi_ild 5 94) from xs_iload hΓ dX1_moved_92) rfl ?_
      obtain ⟨a9, ha9, e⟩ := e
      obtain ⟨_, e0, e⟩ := e
      obtain ⟨v10, e1, e⟩ := e
      refine xw_hu2 (o := v8) (show xm_Imp g Γ 94 (xi_vir g 8 M_X10_change 7 2 97) from xs_invV hG hΓ k_X10_change rfl (ci := 8) rfl q2074 q2075 q2076 dX1_moved_94) (by simp [xm_stk, xv_cat, xc_int, xc_long, xc_float, xc_double, xc_ref]) ha9 e0 (fun Q X hQ => K_X10_change hG a9 l6 l5 _ e1 hQ) ?_
      refine xw_inc (v := (1)) (ls' := [some (.ref l0), some (.int l1), some (.int l2), none, none, some (.int l5), some (va_rf l6), some (.int (l7 + 1)), some (va_rf v8)]) (show xm_Imp g Γ 97 (xi_inc 7 (1) 100) from xs_iinc hΓ dX1_moved_97 (by decide) (Nat.le_of_ble_eq_true rfl)) rfl ((xm_s1_o (o := l6) rfl).trans rfl) ?_
      refine xw_goto (show xm_Imp g Γ 100 (xi_goto 48) from xs_goto hΓ dX1_moved_100 (by decide)) ?_
      have hq := hk48 _ e; exact xm_lx (hq) (And.intro rfl (And.intro rfl (And.intro rfl (And.intro rfl (And.intro rfl (And.intro rfl (trivial)))))))
    unfold D_X1_moved_48 at e
    refine xw_ild (show xm_Imp g Γ 48 (xi_ild 7 50) from xs_iload hΓ dX1_moved_48) rfl ?_
    refine xw_ild (show xm_Imp g Γ 50 (xi_ild 2 51) from xs_iload_n hΓ dX1_moved_50) rfl ?_
    refine xw_ild (show xm_Imp g Γ 51 (xi_ild 1 52) from xs_iload_n hΓ dX1_moved_51) rfl ?_
    refine xw_ii (show xm_Imp g Γ 52 (xi_ii (fun x y => x - y) 53) from xs_isub hΓ dX1_moved_52) ?_
    refine xw_ic (show xm_Imp g Γ 53 (xi_ic (fun x y => y ≤ x) 103 56) from xs_icmp_ge hΓ dX1_moved_53 (by decide)) (fun c => ?_) (fun c => ?_)
    · rw [if_pos c] at e
      refine xw_aldo (x := l6) (show xm_Imp g Γ 103 (xi_ald 6 105) from xs_aload hΓ dX1_moved_103) rfl ?_
      exact xw_areto (show xm_Imp g Γ 105 (xi_aret _) from xs_areturn hΓ rfl (Or.inl ⟨_, rfl⟩) dX1_moved_105) ⟨_, rfl, e⟩
    · rw [if_neg c] at e
      refine xw_ald (show xm_Imp g Γ 56 (xi_ald 0 57) from xs_aload_n hΓ dX1_moved_56) rfl ?_
      obtain ⟨v6, e1, e⟩ := e
      refine xw_gr1 (o := (some l0)) (show xm_Imp g Γ 57 (xi_get 0 1 60) from xs_get hG hΓ (ci := 0) (kf := 1) rfl (Nat.le_of_ble_eq_true rfl) q346 dX1_moved_57) rfl e1 ?_
      refine xw_ild (show xm_Imp g Γ 60 (xi_ild 5 62) from xs_iload hΓ dX1_moved_60) rfl ?_
      refine xw_if (show xm_Imp g Γ 62 (xi_if (fun x => x = 0) 74 65) from xs_if_eq hΓ dX1_moved_62 (by decide)) (fun c => ?_) (fun c => ?_)
      · rw [if_pos c] at e
        refine xw_ild (show xm_Imp g Γ 74 (xi_ild 1 75) from xs_iload_n hΓ dX1_moved_74) rfl ?_
        refine xw_ild (show xm_Imp g Γ 75 (xi_ild 7 77) from xs_iload hΓ dX1_moved_75) rfl ?_
        refine xw_ii (show xm_Imp g Γ 77 (xi_ii (fun x y => x + y) 78) from xs_iadd hΓ dX1_moved_77) ?_
        exact hB_78 _ _ _ _ _ _ e
      · rw [if_neg c] at e
        refine xw_ild (show xm_Imp g Γ 65 (xi_ild 2 66) from xs_iload_n hΓ dX1_moved_65) rfl ?_
        refine xw_psh (v := (.int (1))) (show xm_Imp g Γ 66 (xi_psh (.int (1)) 67) from xs_iconst hΓ dX1_moved_66 (by decide)) ?_
        refine xw_ii (show xm_Imp g Γ 67 (xi_ii (fun x y => x - y) 68) from xs_isub hΓ dX1_moved_67) ?_
        refine xw_ild (show xm_Imp g Γ 68 (xi_ild 7 70) from xs_iload hΓ dX1_moved_68) rfl ?_
        refine xw_ii (show xm_Imp g Γ 70 (xi_ii (fun x y => x - y) 71) from xs_isub hΓ dX1_moved_70) ?_
        refine xw_goto (show xm_Imp g Γ 71 (xi_goto 78) from xs_goto hΓ dX1_moved_71 (by decide)) ?_
        exact hB_78 _ _ _ _ _ _ e
  have hL_3 : ∀ (l0 : Nat) (l1 : Int32) (l2 : Int32) (l3 : Int32) (l4 : Int32) (l5 : Int32) (s : Int32 × xm_H × Nat × Nat), L_X1_moved_3 g l0 l1 l2 l3 l4 l5 Q X s → xm_W g Γ 3 [some (.ref l0), some (.int l1), some (.int l2), some (.int l3), some (.int l4), some (.int l5), some (.int s.1), none, none] [] s.2.1 s.2.2.1 s.2.2.2 := by
    intro l0 l1 l2 l3 l4 l5
    refine xt_rule (WS := fun s : Int32 × xm_H × Nat × Nat => xm_W g Γ 3 [some (.ref l0), some (.int l1), some (.int l2), some (.int l3), some (.int l4), some (.int l5), some (.int s.1), none, none] [] s.2.1 s.2.2.1 s.2.2.2) ?_
    intro k3 hk3 s e
    unfold D_X1_moved_3 at e
    refine xw_ild (show xm_Imp g Γ 3 (xi_ild 6 5) from xs_iload hΓ dX1_moved_3) rfl ?_
    refine xw_ild (show xm_Imp g Γ 5 (xi_ild 2 6) from xs_iload_n hΓ dX1_moved_5) rfl ?_
    refine xw_ic (show xm_Imp g Γ 6 (xi_ic (fun x y => y ≤ x) 32 9) from xs_icmp_ge hΓ dX1_moved_6 (by decide)) (fun c => ?_) (fun c => ?_)
    · rw [if_pos c] at e
      refine xw_new (show xm_Imp g Γ 32 (xi_new 3 3 [.int 0, .int 0, .int 0] 35) from xs_new hG hΓ (ci := 3) rfl q1658 q241 q127 rfl tyX4 tyX4_ok (xm_df 3 (by decide +kernel)) dX1_moved_32) e (fun a1 h2 b3 b4 e => ?_)
      refine xw_dup (show xm_Imp g Γ 35 (xi_dup 36) from xs_dup hΓ dX1_moved_35) rfl ?_
      refine xw_ild (show xm_Imp g Γ 36 (xi_ild 3 37) from xs_iload_n hΓ dX1_moved_36) rfl ?_
      refine xw_ild (show xm_Imp g Γ 37 (xi_ild 4 39) from xs_iload hΓ dX1_moved_37) rfl ?_
      refine xw_psh (v := (.int (0))) (show xm_Imp g Γ 39 (xi_psh (.int (0)) 40) from xs_iconst hΓ dX1_moved_39 (by decide)) ?_
      obtain ⟨v5, e1, e⟩ := e
      refine xw_pu3 (o := (some a1)) (show xm_Imp g Γ 40 (xi_spe g M_X4_init 2 3 43) from xs_invI hG hΓ k_X4_init rfl q1889 q243 rfl dX1_moved_40) rfl rfl (fun Q X hQ => K_X4_init hG a1 l3 l4 0 _ e1 hQ) ?_
      refine xw_ast (ls' := [some (.ref l0), some (.int l1), some (.int l2), some (.int l3), some (.int l4), some (.int l5), some (.ref a1), none, none]) (show xm_Imp g Γ 43 (xi_ast 6 45) from xs_astore hΓ dX1_moved_43 (Nat.le_of_ble_eq_true rfl)) rfl ?_
      refine xw_psh (v := (.int (0))) (show xm_Imp g Γ 45 (xi_psh (.int (0)) 46) from xs_iconst hΓ dX1_moved_45 (by decide)) ?_
      refine xw_ist (ls' := [some (.ref l0), some (.int l1), some (.int l2), some (.int l3), some (.int l4), some (.int l5), some (.ref a1), some (.int 0), none]) (show xm_Imp g Γ 46 (xi_ist 7 48) from xs_istore hΓ dX1_moved_46 (Nat.le_of_ble_eq_true rfl)) rfl ?_
      exact xm_lx (hL_48 _ _ _ _ _ _ e) (And.intro rfl (And.intro rfl (And.intro rfl (And.intro rfl (And.intro rfl (And.intro rfl (trivial)))))))
    · rw [if_neg c] at e
      refine xw_ald (show xm_Imp g Γ 9 (xi_ald 0 10) from xs_aload_n hΓ dX1_moved_9) rfl ?_
      obtain ⟨v11, e1, e⟩ := e
      refine xw_gr1 (o := (some l0)) (show xm_Imp g Γ 10 (xi_get 0 1 13) from xs_get hG hΓ (ci := 0) (kf := 1) rfl (Nat.le_of_ble_eq_true rfl) q346 dX1_moved_10) rfl e1 ?_
      refine xw_ild (show xm_Imp g Γ 13 (xi_ild 6 15) from xs_iload hΓ dX1_moved_13) rfl ?_
      obtain ⟨a12, ha12, e⟩ := e
      obtain ⟨_, e0, e⟩ := e
      obtain ⟨v13, e1, e⟩ := e
      refine xw_hv1 (o := v11) (show xm_Imp g Γ 15 (xi_vir g 12 M_J2_get 10 1 20) from xs_invF hG hΓ k_J2_get rfl (ci := 12) rfl q1148 q1153 q1151 ⟨by decide, by decide⟩ (by decide +kernel) q1150 q1149 q1154 q1152 q903 dX1_moved_15) (by simp [xm_stk, xv_cat, xc_int, xc_long, xc_float, xc_double, xc_ref]) ha12 e0 (fun Q X hQ => K_J2_get hG a12 s.1 _ e1 hQ) ?_
      obtain ⟨v14, e1, e⟩ := e
      refine xw_inst (o := v13) (show xm_Imp g Γ 20 (xi_inst "StringTableau$GateOperation" 23) from xs_inst hG hΓ q2073 dX1_moved_20) e1 ?_
      obtain ⟨m15, m16, ⟨em1, em2⟩, e⟩ := e
      refine xw_tXsu1 (show xm_Imp g Γ 23 (xi_invX g M_X1_checkState 8 1 26 X) from xs_invSX hG hΓ k_X1_checkState rfl rfl q1891 q1892 dX1_moved_23) rfl em1 em2 (K_X1_checkState hG v14 _ _ _ e) (fun h17 e => ?_)
      refine xw_inc (v := (1)) (ls' := [some (.ref l0), some (.int l1), some (.int l2), some (.int l3), some (.int l4), some (.int l5), some (.int (s.1 + 1)), none, none]) (show xm_Imp g Γ 26 (xi_inc 6 (1) 29) from xs_iinc hΓ dX1_moved_26 (by decide) (Nat.le_of_ble_eq_true rfl)) rfl rfl ?_
      refine xw_goto (show xm_Imp g Γ 29 (xi_goto 3) from xs_goto hΓ dX1_moved_29 (by decide)) ?_
      have hq := hk3 _ e; exact hq
  unfold F_X1_moved at e
  refine xw_ild (show xm_Imp g Γ 0 (xi_ild 1 1) from xs_iload_n hΓ dX1_moved_0) rfl ?_
  refine xw_ist (ls' := [some (.ref p0), some (.int p1), some (.int p2), some (.int p3), some (.int p4), some (.int p5), some (.int p1), none, none]) (show xm_Imp g Γ 1 (xi_ist 6 3) from xs_istore hΓ dX1_moved_1 (Nat.le_of_ble_eq_true rfl)) rfl ?_
  exact hL_3 _ _ _ _ _ _ _ e
