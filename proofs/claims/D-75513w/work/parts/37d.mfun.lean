/-! THE REFERENCE as functions (printed by gen/mkmfun.py) -/
set_option maxRecDepth 100000
noncomputable def B_X5_operation_34 (l1 : Int32) (l2 : Int32) (s1 : Int32) (σ : xM_S) : Option (Int32 × xM_S) :=
 xo_b (F_X5_is s1 σ) (fun v1 =>
 (if v1.1 = 0 then
 some ((0, v1.2)) else
 (if l2 = 0 then
 xo_b (xa_ix 60 l1) (fun j2 =>
 some (((v1.2.2 9 j2), v1.2))) else
 (if l2 = 1 then
 xo_b (xa_ix 60 l1) (fun j3 =>
 some (((v1.2.2 10 j3), v1.2))) else
 (if l2 = 2 then
 xo_b (xa_ix 60 l1) (fun j4 =>
 some (((v1.2.2 11 j4), v1.2))) else
 (if l2 = 3 then
 xo_b (xa_ix 60 l1) (fun j5 =>
 some (((v1.2.2 12 j5), v1.2))) else
 (if l2 = 4 then
 xo_b (xa_ix 60 l1) (fun j6 =>
 some (((v1.2.2 13 j6), v1.2))) else
 (if l2 = 5 then
 xo_b (xa_ix 60 l1) (fun j7 =>
 some (((v1.2.2 14 j7), v1.2))) else
 (if l2 = 6 then
 xo_b (xa_ix 60 l1) (fun j8 =>
 some (((v1.2.2 15 j8), v1.2))) else
 xo_b (xa_ix 60 l1) (fun j9 =>
 some (((v1.2.2 16 j9), v1.2))))))))))))
noncomputable def F_X5_operation (p1 : Int32) (p2 : Int32) (σ : xM_S) : Option (Int32 × xM_S) :=
 B_X5_operation_34 p1 p2 (if (F_X5_isIn p1.toInt64 0 (((σ.1 18) - 1).toInt64)) = 0 then 0 else (if (F_X5_isIn p2.toInt64 0 7) = 0 then 0 else 1)) σ
set_option maxHeartbeats 4000000 in
theorem K_X5_operation {g : xm_G} (hG : xm_Gw g) {h0 : xm_H} {m : Nat} {ad : Nat → Nat} (hM : xM_ok h0 m ad) (hB : xk_B g h0) (p1 : Int32) (p2 : Int32) (σ : xM_S) {o : Int32 × xM_S} (e : F_X5_operation p1 p2 σ = some o) {Q : xm_P} {X : xm_X} (hQ : Q (some (.int o.1)) (xMp h0 m ad o.2)) : xm_Run g M_X5_operation 2 [.ref m, .int p1, .int p2] (xMp h0 m ad σ) 0 0 Q X := by
  refine xm_Run.of pn_StringTableauModel (Nat.le_of_ble_eq_true rfl) (fun Γ hΓ => ?_)
  obtain ⟨P0, hP0, hp⟩ : ∃ P : Int32 × xM_S → Prop, (∀ o, P o → Q (some (.int o.1)) (xMp h0 m ad o.2)) ∧ P o := ⟨fun o => Q (some (.int o.1)) (xMp h0 m ad o.2), fun _ h => h, hQ⟩
  clear hQ
  show xm_W g Γ 0 [some (.ref m), some (.int p1), some (.int p2)] [] (xMp h0 m ad σ) 0 0
  have hB_34 : ∀ (l1 : Int32) (l2 : Int32) (s1 : Int32) (σ : xM_S) (o : Int32 × xM_S), B_X5_operation_34 l1 l2 s1 σ = some o → P0 o → xm_W g Γ 34 [some (.ref m), some (.int l1), some (.int l2)] [.int s1, .ref m] (xMp h0 m ad σ) 0 0 := by
    intro l1 l2 s1 σ o e hp
    unfold B_X5_operation_34 at e
    obtain ⟨v1, e1, e⟩ := xo_b_s e
    refine xw_mv1 (show xm_Imp g Γ 34 (xi_vir g 4 M_X5_is 1 1 37) from xs_invV hG hΓ k_X5_is rfl (ci := 4) rfl q2986 q2988 qs46 dX5_operation_34) rfl (fun Q X hQ => K_X5_is hG hM hB s1 σ e1 hQ) ?_
    refine xw_if (show xm_Imp g Γ 37 (xi_if (fun x => x = 0) 40 42) from xs_if_ne hΓ dX5_operation_37 (by decide)) (fun c => ?_) (fun c => ?_)
    · rw [if_pos c] at e
      refine xw_psh (v := (.int (0))) (show xm_Imp g Γ 40 (xi_psh (.int (0)) 41) from xs_iconst hΓ dX5_operation_40 (by decide)) ?_
      exact xw_iret (show xm_Imp g Γ 41 (xi_iret .int _) from xs_ireturn hΓ rfl dX5_operation_41) (xn_int _) (hP0 _ (xl_fin e hp))
    · rw [if_neg c] at e
      refine xw_ild (show xm_Imp g Γ 42 (xi_ild 2 43) from xs_iload_n hΓ dX5_operation_42) rfl ?_
      by_cases c0 : l2 = 0
      · rw [if_pos c0] at e
        refine xw_tsi (show xm_Imp g Γ 43 (xi_tsw 0 6 [84, 91, 98, 105, 112, 119, 126] 133) from xs_tsw hΓ dX5_operation_43 (by decide) (by decide) (by decide)) (i := 0) rfl (by rw [c0]; decide) (by decide) ?_
        refine xw_ald (show xm_Imp g Γ 84 (xi_ald 0 85) from xs_aload_n hΓ dX5_operation_84) rfl ?_
        refine xw_mga (k := 9) (show xm_Imp g Γ 85 (xi_get 4 9 88) from xs_get hG hΓ (ci := 4) (kf := 9) rfl (Nat.le_of_ble_eq_true rfl) q2859 dX5_operation_85) (fun _ => rfl) ?_
        refine xw_ild (show xm_Imp g Γ 88 (xi_ild 1 89) from xs_iload_n hΓ dX5_operation_88) rfl ?_
        obtain ⟨j2, e1, e⟩ := xo_b_s e
        refine xw_mial (k := 9) (v := (v1.2.2 9 j2)) (show xm_Imp g Γ 89 (xi_ial 90) from xs_ial hG hΓ dX5_operation_89) hM (by decide) rfl e1 rfl ?_
        exact xw_iret (show xm_Imp g Γ 90 (xi_iret .int _) from xs_ireturn hΓ rfl dX5_operation_90) (xn_int _) (hP0 _ (xl_fin e hp))
      rw [if_neg c0] at e
      by_cases c1 : l2 = 1
      · rw [if_pos c1] at e
        refine xw_tsi (show xm_Imp g Γ 43 (xi_tsw 0 6 [84, 91, 98, 105, 112, 119, 126] 133) from xs_tsw hΓ dX5_operation_43 (by decide) (by decide) (by decide)) (i := 1) rfl (by rw [c1]; decide) (by decide) ?_
        refine xw_ald (show xm_Imp g Γ 91 (xi_ald 0 92) from xs_aload_n hΓ dX5_operation_91) rfl ?_
        refine xw_mga (k := 10) (show xm_Imp g Γ 92 (xi_get 4 10 95) from xs_get hG hΓ (ci := 4) (kf := 10) rfl (Nat.le_of_ble_eq_true rfl) q2860 dX5_operation_92) (fun _ => rfl) ?_
        refine xw_ild (show xm_Imp g Γ 95 (xi_ild 1 96) from xs_iload_n hΓ dX5_operation_95) rfl ?_
        obtain ⟨j3, e1, e⟩ := xo_b_s e
        refine xw_mial (k := 10) (v := (v1.2.2 10 j3)) (show xm_Imp g Γ 96 (xi_ial 97) from xs_ial hG hΓ dX5_operation_96) hM (by decide) rfl e1 rfl ?_
        exact xw_iret (show xm_Imp g Γ 97 (xi_iret .int _) from xs_ireturn hΓ rfl dX5_operation_97) (xn_int _) (hP0 _ (xl_fin e hp))
      rw [if_neg c1] at e
      by_cases c2 : l2 = 2
      · rw [if_pos c2] at e
        refine xw_tsi (show xm_Imp g Γ 43 (xi_tsw 0 6 [84, 91, 98, 105, 112, 119, 126] 133) from xs_tsw hΓ dX5_operation_43 (by decide) (by decide) (by decide)) (i := 2) rfl (by rw [c2]; decide) (by decide) ?_
        refine xw_ald (show xm_Imp g Γ 98 (xi_ald 0 99) from xs_aload_n hΓ dX5_operation_98) rfl ?_
        refine xw_mga (k := 11) (show xm_Imp g Γ 99 (xi_get 4 11 102) from xs_get hG hΓ (ci := 4) (kf := 11) rfl (Nat.le_of_ble_eq_true rfl) q2861 dX5_operation_99) (fun _ => rfl) ?_
        refine xw_ild (show xm_Imp g Γ 102 (xi_ild 1 103) from xs_iload_n hΓ dX5_operation_102) rfl ?_
        obtain ⟨j4, e1, e⟩ := xo_b_s e
        refine xw_mial (k := 11) (v := (v1.2.2 11 j4)) (show xm_Imp g Γ 103 (xi_ial 104) from xs_ial hG hΓ dX5_operation_103) hM (by decide) rfl e1 rfl ?_
        exact xw_iret (show xm_Imp g Γ 104 (xi_iret .int _) from xs_ireturn hΓ rfl dX5_operation_104) (xn_int _) (hP0 _ (xl_fin e hp))
      rw [if_neg c2] at e
      by_cases c3 : l2 = 3
      · rw [if_pos c3] at e
        refine xw_tsi (show xm_Imp g Γ 43 (xi_tsw 0 6 [84, 91, 98, 105, 112, 119, 126] 133) from xs_tsw hΓ dX5_operation_43 (by decide) (by decide) (by decide)) (i := 3) rfl (by rw [c3]; decide) (by decide) ?_
        refine xw_ald (show xm_Imp g Γ 105 (xi_ald 0 106) from xs_aload_n hΓ dX5_operation_105) rfl ?_
        refine xw_mga (k := 12) (show xm_Imp g Γ 106 (xi_get 4 12 109) from xs_get hG hΓ (ci := 4) (kf := 12) rfl (Nat.le_of_ble_eq_true rfl) q2862 dX5_operation_106) (fun _ => rfl) ?_
        refine xw_ild (show xm_Imp g Γ 109 (xi_ild 1 110) from xs_iload_n hΓ dX5_operation_109) rfl ?_
        obtain ⟨j5, e1, e⟩ := xo_b_s e
        refine xw_mial (k := 12) (v := (v1.2.2 12 j5)) (show xm_Imp g Γ 110 (xi_ial 111) from xs_ial hG hΓ dX5_operation_110) hM (by decide) rfl e1 rfl ?_
        exact xw_iret (show xm_Imp g Γ 111 (xi_iret .int _) from xs_ireturn hΓ rfl dX5_operation_111) (xn_int _) (hP0 _ (xl_fin e hp))
      rw [if_neg c3] at e
      by_cases c4 : l2 = 4
      · rw [if_pos c4] at e
        refine xw_tsi (show xm_Imp g Γ 43 (xi_tsw 0 6 [84, 91, 98, 105, 112, 119, 126] 133) from xs_tsw hΓ dX5_operation_43 (by decide) (by decide) (by decide)) (i := 4) rfl (by rw [c4]; decide) (by decide) ?_
        refine xw_ald (show xm_Imp g Γ 112 (xi_ald 0 113) from xs_aload_n hΓ dX5_operation_112) rfl ?_
        refine xw_mga (k := 13) (show xm_Imp g Γ 113 (xi_get 4 13 116) from xs_get hG hΓ (ci := 4) (kf := 13) rfl (Nat.le_of_ble_eq_true rfl) q2863 dX5_operation_113) (fun _ => rfl) ?_
        refine xw_ild (show xm_Imp g Γ 116 (xi_ild 1 117) from xs_iload_n hΓ dX5_operation_116) rfl ?_
        obtain ⟨j6, e1, e⟩ := xo_b_s e
        refine xw_mial (k := 13) (v := (v1.2.2 13 j6)) (show xm_Imp g Γ 117 (xi_ial 118) from xs_ial hG hΓ dX5_operation_117) hM (by decide) rfl e1 rfl ?_
        exact xw_iret (show xm_Imp g Γ 118 (xi_iret .int _) from xs_ireturn hΓ rfl dX5_operation_118) (xn_int _) (hP0 _ (xl_fin e hp))
      rw [if_neg c4] at e
      by_cases c5 : l2 = 5
      · rw [if_pos c5] at e
        refine xw_tsi (show xm_Imp g Γ 43 (xi_tsw 0 6 [84, 91, 98, 105, 112, 119, 126] 133) from xs_tsw hΓ dX5_operation_43 (by decide) (by decide) (by decide)) (i := 5) rfl (by rw [c5]; decide) (by decide) ?_
        refine xw_ald (show xm_Imp g Γ 119 (xi_ald 0 120) from xs_aload_n hΓ dX5_operation_119) rfl ?_
        refine xw_mga (k := 14) (show xm_Imp g Γ 120 (xi_get 4 14 123) from xs_get hG hΓ (ci := 4) (kf := 14) rfl (Nat.le_of_ble_eq_true rfl) q2864 dX5_operation_120) (fun _ => rfl) ?_
        refine xw_ild (show xm_Imp g Γ 123 (xi_ild 1 124) from xs_iload_n hΓ dX5_operation_123) rfl ?_
        obtain ⟨j7, e1, e⟩ := xo_b_s e
        refine xw_mial (k := 14) (v := (v1.2.2 14 j7)) (show xm_Imp g Γ 124 (xi_ial 125) from xs_ial hG hΓ dX5_operation_124) hM (by decide) rfl e1 rfl ?_
        exact xw_iret (show xm_Imp g Γ 125 (xi_iret .int _) from xs_ireturn hΓ rfl dX5_operation_125) (xn_int _) (hP0 _ (xl_fin e hp))
      rw [if_neg c5] at e
      by_cases c6 : l2 = 6
      · rw [if_pos c6] at e
        refine xw_tsi (show xm_Imp g Γ 43 (xi_tsw 0 6 [84, 91, 98, 105, 112, 119, 126] 133) from xs_tsw hΓ dX5_operation_43 (by decide) (by decide) (by decide)) (i := 6) rfl (by rw [c6]; decide) (by decide) ?_
        refine xw_ald (show xm_Imp g Γ 126 (xi_ald 0 127) from xs_aload_n hΓ dX5_operation_126) rfl ?_
        refine xw_mga (k := 15) (show xm_Imp g Γ 127 (xi_get 4 15 130) from xs_get hG hΓ (ci := 4) (kf := 15) rfl (Nat.le_of_ble_eq_true rfl) q2865 dX5_operation_127) (fun _ => rfl) ?_
        refine xw_ild (show xm_Imp g Γ 130 (xi_ild 1 131) from xs_iload_n hΓ dX5_operation_130) rfl ?_
        obtain ⟨j8, e1, e⟩ := xo_b_s e
        refine xw_mial (k := 15) (v := (v1.2.2 15 j8)) (show xm_Imp g Γ 131 (xi_ial 132) from xs_ial hG hΓ dX5_operation_131) hM (by decide) rfl e1 rfl ?_
        exact xw_iret (show xm_Imp g Γ 132 (xi_iret .int _) from xs_ireturn hΓ rfl dX5_operation_132) (xn_int _) (hP0 _ (xl_fin e hp))
      rw [if_neg c6] at e
      refine xw_tsd (show xm_Imp g Γ 43 (xi_tsw 0 6 [84, 91, 98, 105, 112, 119, 126] 133) from xs_tsw hΓ dX5_operation_43 (by decide) (by decide) (by decide)) (xm_tsd l2 [(0 : Int32), (1 : Int32), (2 : Int32), (3 : Int32), (4 : Int32), (5 : Int32), (6 : Int32)] (by decide) (And.intro c0 (And.intro c1 (And.intro c2 (And.intro c3 (And.intro c4 (And.intro c5 (And.intro c6 (trivial))))))))) (by decide) ?_
      refine xw_ald (show xm_Imp g Γ 133 (xi_ald 0 134) from xs_aload_n hΓ dX5_operation_133) rfl ?_
      refine xw_mga (k := 16) (show xm_Imp g Γ 134 (xi_get 4 16 137) from xs_get hG hΓ (ci := 4) (kf := 16) rfl (Nat.le_of_ble_eq_true rfl) q2866 dX5_operation_134) (fun _ => rfl) ?_
      refine xw_ild (show xm_Imp g Γ 137 (xi_ild 1 138) from xs_iload_n hΓ dX5_operation_137) rfl ?_
      obtain ⟨j9, e1, e⟩ := xo_b_s e
      refine xw_mial (k := 16) (v := (v1.2.2 16 j9)) (show xm_Imp g Γ 138 (xi_ial 139) from xs_ial hG hΓ dX5_operation_138) hM (by decide) rfl e1 rfl ?_
      exact xw_iret (show xm_Imp g Γ 139 (xi_iret .int _) from xs_ireturn hΓ rfl dX5_operation_139) (xn_int _) (hP0 _ (xl_fin e hp))
  unfold F_X5_operation at e
  refine xw_ald (show xm_Imp g Γ 0 (xi_ald 0 1) from xs_aload_n hΓ dX5_operation_0) rfl ?_
  refine xw_ild (show xm_Imp g Γ 1 (xi_ild 1 2) from xs_iload_n hΓ dX5_operation_1) rfl ?_
  refine xw_i2l (show xm_Imp g Γ 2 (xi_i2l 3) from xs_i2l hΓ dX5_operation_2) ?_
  refine xw_psh (v := (.long 0)) (show xm_Imp g Γ 3 (xi_psh (.long 0) 4) from xs_lconst hΓ dX5_operation_3 (by decide)) ?_
  refine xw_ald (show xm_Imp g Γ 4 (xi_ald 0 5) from xs_aload_n hΓ dX5_operation_4) rfl ?_
  refine xw_mgi (v := (σ.1 18)) (show xm_Imp g Γ 5 (xi_get 4 18 8) from xs_get hG hΓ (ci := 4) (kf := 18) rfl (Nat.le_of_ble_eq_true rfl) q2868 dX5_operation_5) (fun _ => rfl) rfl ?_
  refine xw_psh (v := (.int (1))) (show xm_Imp g Γ 8 (xi_psh (.int (1)) 9) from xs_iconst hΓ dX5_operation_8 (by decide)) ?_
  refine xw_ii (show xm_Imp g Γ 9 (xi_ii (fun x y => x - y) 10) from xs_isub hΓ dX5_operation_9) ?_
  refine xw_i2l (show xm_Imp g Γ 10 (xi_i2l 11) from xs_i2l hΓ dX5_operation_10) ?_
  refine xw_sv3 (show xm_Imp g Γ 11 (xi_inv g M_X5_isIn 1 3 14) from xs_invS hG hΓ k_X5_isIn rfl q2996 q2997 dX5_operation_11) rfl (fun Q X hQ => K_X5_isIn hG p1.toInt64 0 (((σ.1 18) - 1).toInt64) rfl hQ) ?_
  refine xw_if (show xm_Imp g Γ 14 (xi_if (fun x => x = 0) 33 17) from xs_if_eq hΓ dX5_operation_14 (by decide)) (fun c => ?_) (fun c => ?_)
  · rw [if_pos c] at e
    refine xw_psh (v := (.int (0))) (show xm_Imp g Γ 33 (xi_psh (.int (0)) 34) from xs_iconst hΓ dX5_operation_33 (by decide)) ?_
    exact hB_34 _ _ _ _ _ e hp
  · rw [if_neg c] at e
    refine xw_ild (show xm_Imp g Γ 17 (xi_ild 2 18) from xs_iload_n hΓ dX5_operation_17) rfl ?_
    refine xw_i2l (show xm_Imp g Γ 18 (xi_i2l 19) from xs_i2l hΓ dX5_operation_18) ?_
    refine xw_psh (v := (.long 0)) (show xm_Imp g Γ 19 (xi_psh (.long 0) 20) from xs_lconst hΓ dX5_operation_19 (by decide)) ?_
    refine xw_psh (v := (.long (7))) (show xm_Imp g Γ 20 (xi_psh (.long (7)) 23) from xs_ldc2 hG hΓ q3164 dX5_operation_20) ?_
    refine xw_sv3 (show xm_Imp g Γ 23 (xi_inv g M_X5_isIn 1 3 26) from xs_invS hG hΓ k_X5_isIn rfl q2996 q2997 dX5_operation_23) rfl (fun Q X hQ => K_X5_isIn hG p2.toInt64 0 7 rfl hQ) ?_
    refine xw_if (show xm_Imp g Γ 26 (xi_if (fun x => x = 0) 33 29) from xs_if_eq hΓ dX5_operation_26 (by decide)) (fun c => ?_) (fun c => ?_)
    · rw [if_pos c] at e
      refine xw_psh (v := (.int (0))) (show xm_Imp g Γ 33 (xi_psh (.int (0)) 34) from xs_iconst hΓ dX5_operation_33 (by decide)) ?_
      exact hB_34 _ _ _ _ _ e hp
    · rw [if_neg c] at e
      refine xw_psh (v := (.int (1))) (show xm_Imp g Γ 29 (xi_psh (.int (1)) 30) from xs_iconst hΓ dX5_operation_29 (by decide)) ?_
      refine xw_goto (show xm_Imp g Γ 30 (xi_goto 34) from xs_goto hΓ dX5_operation_30 (by decide)) ?_
      exact hB_34 _ _ _ _ _ e hp
noncomputable def B_X5_feed_76 (l1 : Int32) (l2 : Int32) (l3 : Int32) (l4 : Int32) (l5 : Int32) (l6 : Int32) (s0 : Int32) (σ : xM_S) : Option ((Int32 × xM_S) ⊕ (Int32 × xM_S)) :=
 xo_b (xa_ix 700 (σ.1 20)) (fun j1 =>
 some (Sum.inl (l6 + 1, (xM_f (xM_a σ 19 j1 (((s0 >>> ((24 - (8 * (l6 - l6 / 4 * 4))) &&& 31)).toInt8.toInt32).toInt8.toInt32)) 20 ((σ.1 20) + 1)))))
noncomputable def D_X5_feed_23 (l1 : Int32) (l2 : Int32) (l3 : Int32) (l4 : Int32) (l5 : Int32) (s : Int32 × xM_S) : Option ((Int32 × xM_S) ⊕ (Int32 × xM_S)) :=
 (if 20 ≤ s.1 then
 xl_o (some (((s.2.1 20), s.2))) else
 B_X5_feed_76 l1 l2 l3 l4 l5 s.1 (if 4 ≤ s.1 then (if 8 ≤ s.1 then (if 12 ≤ s.1 then (if 16 ≤ s.1 then l5 else l4) else l3) else l2) else l1) s.2)
noncomputable def L_X5_feed_23 (l1 : Int32) (l2 : Int32) (l3 : Int32) (l4 : Int32) (l5 : Int32) (s : Int32 × xM_S) : Option (Int32 × xM_S) := xl_loop (D_X5_feed_23 l1 l2 l3 l4 l5) s
noncomputable def F_X5_feed (p1 : Int32) (p2 : Int32) (p3 : Int32) (p4 : Int32) (p5 : Int32) (σ : xM_S) : Option (Int32 × xM_S) :=
 (if ((σ.1 20) + 20) ≤ 700 then
 L_X5_feed_23 p1 p2 p3 p4 p5 (0, (xM_f σ 0 0)) else
 some (((-1), (xM_f σ 0 0))))
set_option maxHeartbeats 4000000 in
theorem K_X5_feed {g : xm_G} (hG : xm_Gw g) {h0 : xm_H} {m : Nat} {ad : Nat → Nat} (hM : xM_ok h0 m ad) (hB : xk_B g h0) (p1 : Int32) (p2 : Int32) (p3 : Int32) (p4 : Int32) (p5 : Int32) (σ : xM_S) {o : Int32 × xM_S} (e : F_X5_feed p1 p2 p3 p4 p5 σ = some o) {Q : xm_P} {X : xm_X} (hQ : Q (some (.int o.1)) (xMp h0 m ad o.2)) : xm_Run g M_X5_feed 1 [.ref m, .int p1, .int p2, .int p3, .int p4, .int p5] (xMp h0 m ad σ) 0 0 Q X := by
  refine xm_Run.of pn_StringTableauModel (Nat.le_of_ble_eq_true rfl) (fun Γ hΓ => ?_)
  obtain ⟨P0, hP0, hp⟩ : ∃ P : Int32 × xM_S → Prop, (∀ o, P o → Q (some (.int o.1)) (xMp h0 m ad o.2)) ∧ P o := ⟨fun o => Q (some (.int o.1)) (xMp h0 m ad o.2), fun _ h => h, hQ⟩
  clear hQ
  show xm_W g Γ 0 [some (.ref m), some (.int p1), some (.int p2), some (.int p3), some (.int p4), some (.int p5), none, none] [] (xMp h0 m ad σ) 0 0
  have hL_23 : ∀ (l1 : Int32) (l2 : Int32) (l3 : Int32) (l4 : Int32) (l5 : Int32) (s : Int32 × xM_S) (o : Int32 × xM_S), L_X5_feed_23 l1 l2 l3 l4 l5 s = some o → P0 o → xm_W g Γ 23 [some (.ref m), some (.int l1), some (.int l2), some (.int l3), some (.int l4), some (.int l5), some (.int s.1), none] [] (xMp h0 m ad s.2) 0 0 := by
    intro l1 l2 l3 l4 l5
    refine xl_rule (WS := fun s : Int32 × xM_S => xm_W g Γ 23 [some (.ref m), some (.int l1), some (.int l2), some (.int l3), some (.int l4), some (.int l5), some (.int s.1), none] [] (xMp h0 m ad s.2) 0 0) ?_
    intro s o e hp
    obtain ⟨P1, hP1, hp⟩ : ∃ P : (Int32 × xM_S) ⊕ (Int32 × xM_S) → Prop, (∀ o, P o → xl_P (fun s : Int32 × xM_S => xm_W g Γ 23 [some (.ref m), some (.int l1), some (.int l2), some (.int l3), some (.int l4), some (.int l5), some (.int s.1), none] [] (xMp h0 m ad s.2) 0 0) P0 o) ∧ P o := ⟨_, fun _ h => h, hp⟩
    have hB_76 : ∀ (l6 : Int32) (s0 : Int32) (σ : xM_S) (o : (Int32 × xM_S) ⊕ (Int32 × xM_S)), B_X5_feed_76 l1 l2 l3 l4 l5 l6 s0 σ = some o → P1 o → xm_W g Γ 76 [some (.ref m), some (.int l1), some (.int l2), some (.int l3), some (.int l4), some (.int l5), some (.int l6), none] [.int s0] (xMp h0 m ad σ) 0 0 := by
      intro l6 s0 σ o e hp
      unfold B_X5_feed_76 at e
      refine xw_ist (ls' := [some (.ref m), some (.int l1), some (.int l2), some (.int l3), some (.int l4), some (.int l5), some (.int l6), some (.int s0)]) (show xm_Imp g Γ 76 (xi_ist 7 78) from xs_istore hΓ dX5_feed_76 (Nat.le_of_ble_eq_true rfl)) rfl ?_
      refine xw_ald (show xm_Imp g Γ 78 (xi_ald 0 79) from xs_aload_n hΓ dX5_feed_78) rfl ?_
      refine xw_mga (k := 19) (show xm_Imp g Γ 79 (xi_get 4 19 82) from xs_get hG hΓ (ci := 4) (kf := 19) rfl (Nat.le_of_ble_eq_true rfl) q2869 dX5_feed_79) (fun _ => rfl) ?_
      refine xw_ald (show xm_Imp g Γ 82 (xi_ald 0 83) from xs_aload_n hΓ dX5_feed_82) rfl ?_
      refine xw_mgi (v := (σ.1 20)) (show xm_Imp g Γ 83 (xi_get 4 20 86) from xs_get hG hΓ (ci := 4) (kf := 20) rfl (Nat.le_of_ble_eq_true rfl) q2870 dX5_feed_83) (fun _ => rfl) rfl ?_
      refine xw_ild (show xm_Imp g Γ 86 (xi_ild 7 88) from xs_iload hΓ dX5_feed_86) rfl ?_
      refine xw_psh (v := (.int (24))) (show xm_Imp g Γ 88 (xi_psh (.int (24)) 90) from xs_bipush hΓ dX5_feed_88 (by decide)) ?_
      refine xw_psh (v := (.int (8))) (show xm_Imp g Γ 90 (xi_psh (.int (8)) 92) from xs_bipush hΓ dX5_feed_90 (by decide)) ?_
      refine xw_ild (show xm_Imp g Γ 92 (xi_ild 6 94) from xs_iload hΓ dX5_feed_92) rfl ?_
      refine xw_psh (v := (.int (4))) (show xm_Imp g Γ 94 (xi_psh (.int (4)) 95) from xs_iconst hΓ dX5_feed_94 (by decide)) ?_
      refine xw_id (show xm_Imp g Γ 95 (xi_id (fun x y => x - x / y * y) 96) from xs_irem hΓ dX5_feed_95) (by decide) ?_
      refine xw_ii (show xm_Imp g Γ 96 (xi_ii (fun x y => x * y) 97) from xs_imul hΓ dX5_feed_96) ?_
      refine xw_ii (show xm_Imp g Γ 97 (xi_ii (fun x y => x - y) 98) from xs_isub hΓ dX5_feed_97) ?_
      refine xw_ii (show xm_Imp g Γ 98 (xi_ii (fun x y => x >>> (y &&& 31)) 99) from xs_ishr hΓ dX5_feed_98) ?_
      refine xw_i1 (show xm_Imp g Γ 99 (xi_i1 (fun x => x.toInt8.toInt32) 100) from xs_i2b hΓ dX5_feed_99) ?_
      obtain ⟨j1, e1, e⟩ := xo_b_s e
      refine xw_mbas (k := 19) (show xm_Imp g Γ 100 (xi_bas 101) from xs_bas hG hΓ dX5_feed_100) hM (by decide) rfl e1 ?_
      refine xw_ald (show xm_Imp g Γ 101 (xi_ald 0 102) from xs_aload_n hΓ dX5_feed_101) rfl ?_
      refine xw_ald (show xm_Imp g Γ 102 (xi_ald 0 103) from xs_aload_n hΓ dX5_feed_102) rfl ?_
      refine xw_mgi (v := (σ.1 20)) (show xm_Imp g Γ 103 (xi_get 4 20 106) from xs_get hG hΓ (ci := 4) (kf := 20) rfl (Nat.le_of_ble_eq_true rfl) q2870 dX5_feed_103) (fun _ => rfl) rfl ?_
      refine xw_psh (v := (.int (1))) (show xm_Imp g Γ 106 (xi_psh (.int (1)) 107) from xs_iconst hΓ dX5_feed_106 (by decide)) ?_
      refine xw_ii (show xm_Imp g Γ 107 (xi_ii (fun x y => x + y) 108) from xs_iadd hΓ dX5_feed_107) ?_
      refine xw_mpi (show xm_Imp g Γ 108 (xi_put 4 20 (.int) 111) from xs_put hG hΓ (ci := 4) (kf := 20) rfl (Nat.le_of_ble_eq_true rfl) rfl (by decide +kernel) q2870 dX5_feed_108) (fun _ _ => rfl) ⟨rfl, rfl⟩ ?_
      refine xw_inc (v := (1)) (ls' := [some (.ref m), some (.int l1), some (.int l2), some (.int l3), some (.int l4), some (.int l5), some (.int (l6 + 1)), some (.int s0)]) (show xm_Imp g Γ 111 (xi_inc 6 (1) 114) from xs_iinc hΓ dX5_feed_111 (by decide) (Nat.le_of_ble_eq_true rfl)) rfl rfl ?_
      refine xw_goto (show xm_Imp g Γ 114 (xi_goto 23) from xs_goto hΓ dX5_feed_114 (by decide)) ?_
      have hq := xl_P_inl (hP1 _ (xl_fin e hp)); exact xm_lx (hq) (And.intro rfl (And.intro rfl (And.intro rfl (And.intro rfl (And.intro rfl (And.intro rfl (And.intro rfl (trivial))))))))
    unfold D_X5_feed_23 at e
    refine xw_ild (show xm_Imp g Γ 23 (xi_ild 6 25) from xs_iload hΓ dX5_feed_23) rfl ?_
    refine xw_psh (v := (.int (20))) (show xm_Imp g Γ 25 (xi_psh (.int (20)) 27) from xs_bipush hΓ dX5_feed_25 (by decide)) ?_
    refine xw_ic (show xm_Imp g Γ 27 (xi_ic (fun x y => y ≤ x) 117 30) from xs_icmp_ge hΓ dX5_feed_27 (by decide)) (fun c => ?_) (fun c => ?_)
    · rw [if_pos c] at e
      obtain ⟨_, e, hp⟩ := xl_o_s e (hP1 _ hp)
      refine xw_ald (show xm_Imp g Γ 117 (xi_ald 0 118) from xs_aload_n hΓ dX5_feed_117) rfl ?_
      refine xw_mgi (v := (s.2.1 20)) (show xm_Imp g Γ 118 (xi_get 4 20 121) from xs_get hG hΓ (ci := 4) (kf := 20) rfl (Nat.le_of_ble_eq_true rfl) q2870 dX5_feed_118) (fun _ => rfl) rfl ?_
      exact xw_iret (show xm_Imp g Γ 121 (xi_iret .int _) from xs_ireturn hΓ rfl dX5_feed_121) (xn_int _) (hP0 _ (xl_fin e hp))
    · rw [if_neg c] at e
      refine xw_ild (show xm_Imp g Γ 30 (xi_ild 6 32) from xs_iload hΓ dX5_feed_30) rfl ?_
      refine xw_psh (v := (.int (4))) (show xm_Imp g Γ 32 (xi_psh (.int (4)) 33) from xs_iconst hΓ dX5_feed_32 (by decide)) ?_
      refine xw_ic (show xm_Imp g Γ 33 (xi_ic (fun x y => y ≤ x) 40 36) from xs_icmp_ge hΓ dX5_feed_33 (by decide)) (fun c => ?_) (fun c => ?_)
      · rw [if_pos c] at e
        refine xw_ild (show xm_Imp g Γ 40 (xi_ild 6 42) from xs_iload hΓ dX5_feed_40) rfl ?_
        refine xw_psh (v := (.int (8))) (show xm_Imp g Γ 42 (xi_psh (.int (8)) 44) from xs_bipush hΓ dX5_feed_42 (by decide)) ?_
        refine xw_ic (show xm_Imp g Γ 44 (xi_ic (fun x y => y ≤ x) 51 47) from xs_icmp_ge hΓ dX5_feed_44 (by decide)) (fun c => ?_) (fun c => ?_)
        · rw [if_pos c] at e
          refine xw_ild (show xm_Imp g Γ 51 (xi_ild 6 53) from xs_iload hΓ dX5_feed_51) rfl ?_
          refine xw_psh (v := (.int (12))) (show xm_Imp g Γ 53 (xi_psh (.int (12)) 55) from xs_bipush hΓ dX5_feed_53 (by decide)) ?_
          refine xw_ic (show xm_Imp g Γ 55 (xi_ic (fun x y => y ≤ x) 62 58) from xs_icmp_ge hΓ dX5_feed_55 (by decide)) (fun c => ?_) (fun c => ?_)
          · rw [if_pos c] at e
            refine xw_ild (show xm_Imp g Γ 62 (xi_ild 6 64) from xs_iload hΓ dX5_feed_62) rfl ?_
            refine xw_psh (v := (.int (16))) (show xm_Imp g Γ 64 (xi_psh (.int (16)) 66) from xs_bipush hΓ dX5_feed_64 (by decide)) ?_
            refine xw_ic (show xm_Imp g Γ 66 (xi_ic (fun x y => y ≤ x) 74 69) from xs_icmp_ge hΓ dX5_feed_66 (by decide)) (fun c => ?_) (fun c => ?_)
            · rw [if_pos c] at e
              refine xw_ild (show xm_Imp g Γ 74 (xi_ild 5 76) from xs_iload hΓ dX5_feed_74) rfl ?_
              exact hB_76 _ _ _ _ e hp
            · rw [if_neg c] at e
              refine xw_ild (show xm_Imp g Γ 69 (xi_ild 4 71) from xs_iload hΓ dX5_feed_69) rfl ?_
              refine xw_goto (show xm_Imp g Γ 71 (xi_goto 76) from xs_goto hΓ dX5_feed_71 (by decide)) ?_
              exact hB_76 _ _ _ _ e hp
          · rw [if_neg c] at e
            refine xw_ild (show xm_Imp g Γ 58 (xi_ild 3 59) from xs_iload_n hΓ dX5_feed_58) rfl ?_
            refine xw_goto (show xm_Imp g Γ 59 (xi_goto 76) from xs_goto hΓ dX5_feed_59 (by decide)) ?_
            exact hB_76 _ _ _ _ e hp
        · rw [if_neg c] at e
          refine xw_ild (show xm_Imp g Γ 47 (xi_ild 2 48) from xs_iload_n hΓ dX5_feed_47) rfl ?_
          refine xw_goto (show xm_Imp g Γ 48 (xi_goto 76) from xs_goto hΓ dX5_feed_48 (by decide)) ?_
          exact hB_76 _ _ _ _ e hp
      · rw [if_neg c] at e
        refine xw_ild (show xm_Imp g Γ 36 (xi_ild 1 37) from xs_iload_n hΓ dX5_feed_36) rfl ?_
        refine xw_goto (show xm_Imp g Γ 37 (xi_goto 76) from xs_goto hΓ dX5_feed_37 (by decide)) ?_
        exact hB_76 _ _ _ _ e hp
  unfold F_X5_feed at e
  refine xw_ald (show xm_Imp g Γ 0 (xi_ald 0 1) from xs_aload_n hΓ dX5_feed_0) rfl ?_
  refine xw_psh (v := (.int (0))) (show xm_Imp g Γ 1 (xi_psh (.int (0)) 2) from xs_iconst hΓ dX5_feed_1 (by decide)) ?_
  refine xw_mpi (show xm_Imp g Γ 2 (xi_put 4 0 (.int) 5) from xs_put hG hΓ (ci := 4) (kf := 0) rfl (Nat.le_of_ble_eq_true rfl) rfl (by decide +kernel) q2850 dX5_feed_2) (fun _ _ => rfl) ⟨rfl, rfl⟩ ?_
  refine xw_ald (show xm_Imp g Γ 5 (xi_ald 0 6) from xs_aload_n hΓ dX5_feed_5) rfl ?_
  refine xw_mgi (v := (σ.1 20)) (show xm_Imp g Γ 6 (xi_get 4 20 9) from xs_get hG hΓ (ci := 4) (kf := 20) rfl (Nat.le_of_ble_eq_true rfl) q2870 dX5_feed_6) (fun _ => rfl) rfl ?_
  refine xw_psh (v := (.int (20))) (show xm_Imp g Γ 9 (xi_psh (.int (20)) 11) from xs_bipush hΓ dX5_feed_9 (by decide)) ?_
  refine xw_ii (show xm_Imp g Γ 11 (xi_ii (fun x y => x + y) 12) from xs_iadd hΓ dX5_feed_11) ?_
  refine xw_psh (v := (.int (700))) (show xm_Imp g Γ 12 (xi_psh (.int (700)) 15) from xs_sipush hΓ dX5_feed_12 (by decide)) ?_
  refine xw_ic (show xm_Imp g Γ 15 (xi_ic (fun x y => x ≤ y) 20 18) from xs_icmp_le hΓ dX5_feed_15 (by decide)) (fun c => ?_) (fun c => ?_)
  · rw [if_pos c] at e
    refine xw_psh (v := (.int (0))) (show xm_Imp g Γ 20 (xi_psh (.int (0)) 21) from xs_iconst hΓ dX5_feed_20 (by decide)) ?_
    refine xw_ist (ls' := [some (.ref m), some (.int p1), some (.int p2), some (.int p3), some (.int p4), some (.int p5), some (.int 0), none]) (show xm_Imp g Γ 21 (xi_ist 6 23) from xs_istore hΓ dX5_feed_21 (Nat.le_of_ble_eq_true rfl)) rfl ?_
    exact hL_23 _ _ _ _ _ _ _ e hp
  · rw [if_neg c] at e
    refine xw_psh (v := (.int (-1))) (show xm_Imp g Γ 18 (xi_psh (.int (-1)) 19) from xs_iconst hΓ dX5_feed_18 (by decide)) ?_
    exact xw_iret (show xm_Imp g Γ 19 (xi_iret .int _) from xs_ireturn hΓ rfl dX5_feed_19) (xn_int _) (hP0 _ (xl_fin e hp))
def F_X5_truncate (p1 : Int32) (σ : xM_S) : Int32 × xM_S :=
 (if (F_X5_isIn p1.toInt64 0 ((σ.1 20).toInt64)) = 0 then
 (0, (xM_f σ 0 0)) else
 (1, (xM_f (xM_f σ 0 0) 20 p1)))
set_option maxHeartbeats 4000000 in
theorem K_X5_truncate {g : xm_G} (hG : xm_Gw g) {h0 : xm_H} {m : Nat} {ad : Nat → Nat} (hM : xM_ok h0 m ad) (hB : xk_B g h0) (p1 : Int32) (σ : xM_S) {o : Int32 × xM_S} (e : F_X5_truncate p1 σ = o) {Q : xm_P} {X : xm_X} (hQ : Q (some (.int o.1)) (xMp h0 m ad o.2)) : xm_Run g M_X5_truncate 2 [.ref m, .int p1] (xMp h0 m ad σ) 0 0 Q X := by
  refine xm_Run.of pn_StringTableauModel (Nat.le_of_ble_eq_true rfl) (fun Γ hΓ => ?_)
  obtain ⟨P0, hP0, hp⟩ : ∃ P : Int32 × xM_S → Prop, (∀ o, P o → Q (some (.int o.1)) (xMp h0 m ad o.2)) ∧ P o := ⟨fun o => Q (some (.int o.1)) (xMp h0 m ad o.2), fun _ h => h, hQ⟩
  clear hQ
  show xm_W g Γ 0 [some (.ref m), some (.int p1)] [] (xMp h0 m ad σ) 0 0
  unfold F_X5_truncate at e
  refine xw_ald (show xm_Imp g Γ 0 (xi_ald 0 1) from xs_aload_n hΓ dX5_truncate_0) rfl ?_
  refine xw_psh (v := (.int (0))) (show xm_Imp g Γ 1 (xi_psh (.int (0)) 2) from xs_iconst hΓ dX5_truncate_1 (by decide)) ?_
  refine xw_mpi (show xm_Imp g Γ 2 (xi_put 4 0 (.int) 5) from xs_put hG hΓ (ci := 4) (kf := 0) rfl (Nat.le_of_ble_eq_true rfl) rfl (by decide +kernel) q2850 dX5_truncate_2) (fun _ _ => rfl) ⟨rfl, rfl⟩ ?_
  refine xw_ild (show xm_Imp g Γ 5 (xi_ild 1 6) from xs_iload_n hΓ dX5_truncate_5) rfl ?_
  refine xw_i2l (show xm_Imp g Γ 6 (xi_i2l 7) from xs_i2l hΓ dX5_truncate_6) ?_
  refine xw_psh (v := (.long 0)) (show xm_Imp g Γ 7 (xi_psh (.long 0) 8) from xs_lconst hΓ dX5_truncate_7 (by decide)) ?_
  refine xw_ald (show xm_Imp g Γ 8 (xi_ald 0 9) from xs_aload_n hΓ dX5_truncate_8) rfl ?_
  refine xw_mgi (v := (σ.1 20)) (show xm_Imp g Γ 9 (xi_get 4 20 12) from xs_get hG hΓ (ci := 4) (kf := 20) rfl (Nat.le_of_ble_eq_true rfl) q2870 dX5_truncate_9) (fun _ => rfl) rfl ?_
  refine xw_i2l (show xm_Imp g Γ 12 (xi_i2l 13) from xs_i2l hΓ dX5_truncate_12) ?_
  refine xw_sv3 (show xm_Imp g Γ 13 (xi_inv g M_X5_isIn 1 3 16) from xs_invS hG hΓ k_X5_isIn rfl q2996 q2997 dX5_truncate_13) rfl (fun Q X hQ => K_X5_isIn hG p1.toInt64 0 ((σ.1 20).toInt64) rfl hQ) ?_
  refine xw_if (show xm_Imp g Γ 16 (xi_if (fun x => x = 0) 19 21) from xs_if_ne hΓ dX5_truncate_16 (by decide)) (fun c => ?_) (fun c => ?_)
  · rw [if_pos c] at e
    refine xw_psh (v := (.int (0))) (show xm_Imp g Γ 19 (xi_psh (.int (0)) 20) from xs_iconst hΓ dX5_truncate_19 (by decide)) ?_
    exact xw_iret (show xm_Imp g Γ 20 (xi_iret .boolean _) from xs_ireturn hΓ rfl dX5_truncate_20) rfl (hP0 _ (xl_finV e hp))
  · rw [if_neg c] at e
    refine xw_ald (show xm_Imp g Γ 21 (xi_ald 0 22) from xs_aload_n hΓ dX5_truncate_21) rfl ?_
    refine xw_ild (show xm_Imp g Γ 22 (xi_ild 1 23) from xs_iload_n hΓ dX5_truncate_22) rfl ?_
    refine xw_mpi (show xm_Imp g Γ 23 (xi_put 4 20 (.int) 26) from xs_put hG hΓ (ci := 4) (kf := 20) rfl (Nat.le_of_ble_eq_true rfl) rfl (by decide +kernel) q2870 dX5_truncate_23) (fun _ _ => rfl) ⟨rfl, rfl⟩ ?_
    refine xw_psh (v := (.int (1))) (show xm_Imp g Γ 26 (xi_psh (.int (1)) 27) from xs_iconst hΓ dX5_truncate_26 (by decide)) ?_
    exact xw_iret (show xm_Imp g Γ 27 (xi_iret .boolean _) from xs_ireturn hΓ rfl dX5_truncate_27) rfl (hP0 _ (xl_finV e hp))
noncomputable def F_X5_here (p1 : Int32) (σ : xM_S) : Option (Int32) :=
 (if (σ.1 21) ≤ p1 then
 some ((-1)) else
 xo_b (xa_ix 700 p1) (fun j1 =>
 some ((σ.2 19 j1) &&& 255)))
set_option maxHeartbeats 4000000 in
theorem K_X5_here {g : xm_G} (hG : xm_Gw g) {h0 : xm_H} {m : Nat} {ad : Nat → Nat} (hM : xM_ok h0 m ad) (hB : xk_B g h0) (p1 : Int32) (σ : xM_S) {o : Int32} (e : F_X5_here p1 σ = some o) {Q : xm_P} {X : xm_X} (hQ : Q (some (.int o)) (xMp h0 m ad σ)) : xm_Run g M_X5_here 1 [.ref m, .int p1] (xMp h0 m ad σ) 0 0 Q X := by
  refine xm_Run.of pn_StringTableauModel (Nat.le_of_ble_eq_true rfl) (fun Γ hΓ => ?_)
  obtain ⟨P0, hP0, hp⟩ : ∃ P : Int32 → Prop, (∀ o, P o → Q (some (.int o)) (xMp h0 m ad σ)) ∧ P o := ⟨fun o => Q (some (.int o)) (xMp h0 m ad σ), fun _ h => h, hQ⟩
  clear hQ
  show xm_W g Γ 0 [some (.ref m), some (.int p1)] [] (xMp h0 m ad σ) 0 0
  unfold F_X5_here at e
  refine xw_ild (show xm_Imp g Γ 0 (xi_ild 1 1) from xs_iload_n hΓ dX5_here_0) rfl ?_
  refine xw_ald (show xm_Imp g Γ 1 (xi_ald 0 2) from xs_aload_n hΓ dX5_here_1) rfl ?_
  refine xw_mgi (v := (σ.1 21)) (show xm_Imp g Γ 2 (xi_get 4 21 5) from xs_get hG hΓ (ci := 4) (kf := 21) rfl (Nat.le_of_ble_eq_true rfl) q2871 dX5_here_2) (fun _ => rfl) rfl ?_
  refine xw_ic (show xm_Imp g Γ 5 (xi_ic (fun x y => y ≤ x) 21 8) from xs_icmp_ge hΓ dX5_here_5 (by decide)) (fun c => ?_) (fun c => ?_)
  · rw [if_pos c] at e
    refine xw_psh (v := (.int (-1))) (show xm_Imp g Γ 21 (xi_psh (.int (-1)) 22) from xs_iconst hΓ dX5_here_21 (by decide)) ?_
    exact xw_iret (show xm_Imp g Γ 22 (xi_iret .int _) from xs_ireturn hΓ rfl dX5_here_22) (xn_int _) (hP0 _ (xl_fin e hp))
  · rw [if_neg c] at e
    refine xw_ald (show xm_Imp g Γ 8 (xi_ald 0 9) from xs_aload_n hΓ dX5_here_8) rfl ?_
    refine xw_mga (k := 19) (show xm_Imp g Γ 9 (xi_get 4 19 12) from xs_get hG hΓ (ci := 4) (kf := 19) rfl (Nat.le_of_ble_eq_true rfl) q2869 dX5_here_9) (fun _ => rfl) ?_
    refine xw_ild (show xm_Imp g Γ 12 (xi_ild 1 13) from xs_iload_n hΓ dX5_here_12) rfl ?_
    obtain ⟨j1, e1, e⟩ := xo_b_s e
    refine xw_mbal (k := 19) (v := (σ.2 19 j1)) (show xm_Imp g Γ 13 (xi_bal 14) from xs_bal hG hΓ dX5_here_13) hM (by decide) rfl e1 rfl ?_
    refine xw_psh (v := (.int (255))) (show xm_Imp g Γ 14 (xi_psh (.int (255)) 17) from xs_sipush hΓ dX5_here_14 (by decide)) ?_
    refine xw_ii (show xm_Imp g Γ 17 (xi_ii (fun x y => x &&& y) 18) from xs_iand hΓ dX5_here_17) ?_
    refine xw_goto (show xm_Imp g Γ 18 (xi_goto 22) from xs_goto hΓ dX5_here_18 (by decide)) ?_
    exact xw_iret (show xm_Imp g Γ 22 (xi_iret .int _) from xs_ireturn hΓ rfl dX5_here_22) (xn_int _) (hP0 _ (xl_fin e hp))
noncomputable def D_X5_wordHere_102 (l1 : Int32) (σ : xM_S) (s : Int32) : Option ((Int32) ⊕ ((Int32 × Int32) ⊕ (Int32))) :=
 xo_b (xk_ch xk_W s) (fun v3 =>
 (if v3 = 32 then
 xl_o (some (Sum.inl (l1 + 1, s + 1))) else
 some (Sum.inl (s + 1))))
noncomputable def L_X5_wordHere_102 (l1 : Int32) (σ : xM_S) (s : Int32) : Option ((Int32 × Int32) ⊕ (Int32)) := xl_loop (D_X5_wordHere_102 l1 σ) s
noncomputable def B_X5_wordHere_73 (l1 : Int32) (l2 : Int32) (l3 : Int32) (σ : xM_S) : Option ((Int32 × Int32) ⊕ (Int32)) :=
 xo_b (xk_ch xk_W (l2 + l3)) (fun v2 =>
 (if v2 = 32 then
 (if ((σ.1 23) + l3) = (σ.1 22) then
 xl_o (some (l1)) else
 L_X5_wordHere_102 l1 σ l2) else
 L_X5_wordHere_102 l1 σ l2))
noncomputable def D_X5_wordHere_16 (l1 : Int32) (l2 : Int32) (σ : xM_S) (s : Int32) : Option ((Int32) ⊕ ((Int32 × Int32) ⊕ (Int32))) :=
 xo_b (xk_ch xk_W (l2 + s)) (fun v1 =>
 (if v1 = 32 then
 xl_o (B_X5_wordHere_73 l1 l2 s σ) else
 (if (σ.1 22) ≤ ((σ.1 23) + s) then
 xl_o (B_X5_wordHere_73 l1 l2 s σ) else
 xo_b (xa_ix 700 ((σ.1 23) + s)) (fun j4 =>
 xo_b (xk_ch xk_W (l2 + s)) (fun v5 =>
 (if (σ.2 19 j4) = v5 then
 some (Sum.inl (s + 1)) else
 xl_o (B_X5_wordHere_73 l1 l2 s σ)))))))
noncomputable def L_X5_wordHere_16 (l1 : Int32) (l2 : Int32) (σ : xM_S) (s : Int32) : Option ((Int32 × Int32) ⊕ (Int32)) := xl_loop (D_X5_wordHere_16 l1 l2 σ) s
noncomputable def D_X5_wordHere_4 (σ : xM_S) (s : Int32 × Int32) : Option ((Int32 × Int32) ⊕ (Int32)) :=
 (if (nI xk_W.length) ≤ s.2 then
 xl_o (some ((-1))) else
 L_X5_wordHere_16 s.1 s.2 σ 0)
noncomputable def L_X5_wordHere_4 (σ : xM_S) (s : Int32 × Int32) : Option (Int32) := xl_loop (D_X5_wordHere_4 σ) s
noncomputable def F_X5_wordHere (σ : xM_S) : Option (Int32) :=
 L_X5_wordHere_4 σ (0, 0)
set_option maxHeartbeats 4000000 in
theorem K_X5_wordHere {g : xm_G} (hG : xm_Gw g) {h0 : xm_H} {m : Nat} {ad : Nat → Nat} (hM : xM_ok h0 m ad) (hB : xk_B g h0)  (σ : xM_S) {o : Int32} (e : F_X5_wordHere σ = some o) {Q : xm_P} {X : xm_X} (hQ : Q (some (.int o)) (xMp h0 m ad σ)) : xm_Run g M_X5_wordHere 12 [.ref m] (xMp h0 m ad σ) 0 0 Q X := by
  refine xm_Run.of pn_StringTableauModel (Nat.le_of_ble_eq_true rfl) (fun Γ hΓ => ?_)
  obtain ⟨P0, hP0, hp⟩ : ∃ P : Int32 → Prop, (∀ o, P o → Q (some (.int o)) (xMp h0 m ad σ)) ∧ P o := ⟨fun o => Q (some (.int o)) (xMp h0 m ad σ), fun _ h => h, hQ⟩
  clear hQ
  show xm_W g Γ 0 [some (.ref m), none, none, none] [] (xMp h0 m ad σ) 0 0
  have hL_4 : ∀  (s : Int32 × Int32) (o : Int32), L_X5_wordHere_4 σ s = some o → P0 o → xm_W g Γ 4 [some (.ref m), some (.int s.1), some (.int s.2), none] [] (xMp h0 m ad σ) 0 0 := by
    skip
    refine xl_rule (WS := fun s : Int32 × Int32 => xm_W g Γ 4 [some (.ref m), some (.int s.1), some (.int s.2), none] [] (xMp h0 m ad σ) 0 0) ?_
    intro s o e hp
    obtain ⟨P1, hP1, hp⟩ : ∃ P : (Int32 × Int32) ⊕ (Int32) → Prop, (∀ o, P o → xl_P (fun s : Int32 × Int32 => xm_W g Γ 4 [some (.ref m), some (.int s.1), some (.int s.2), none] [] (xMp h0 m ad σ) 0 0) P0 o) ∧ P o := ⟨_, fun _ h => h, hp⟩
    have hL_102 : ∀ (l1 : Int32) (s : Int32) (o : (Int32 × Int32) ⊕ (Int32)), L_X5_wordHere_102 l1 σ s = some o → P1 o → xm_W g Γ 102 [some (.ref m), some (.int l1), some (.int s), none] [] (xMp h0 m ad σ) 0 0 := by
      intro l1
      refine xl_rule (WS := fun s : Int32 => xm_W g Γ 102 [some (.ref m), some (.int l1), some (.int s), none] [] (xMp h0 m ad σ) 0 0) ?_
      intro s o e hp
      obtain ⟨P2, hP2, hp⟩ : ∃ P : (Int32) ⊕ ((Int32 × Int32) ⊕ (Int32)) → Prop, (∀ o, P o → xl_P (fun s : Int32 => xm_W g Γ 102 [some (.ref m), some (.int l1), some (.int s), none] [] (xMp h0 m ad σ) 0 0) P1 o) ∧ P o := ⟨_, fun _ h => h, hp⟩
      unfold D_X5_wordHere_102 at e
      refine xw_psh (v := (.ref (xm_sa g "StringTableauModel" 271))) (show xm_Imp g Γ 102 (xi_psh (.ref (xm_sa g "StringTableauModel" 271)) 105) from xs_ldSw hG hΓ q3191 dX5_wordHere_102) ?_
      refine xw_ild (show xm_Imp g Γ 105 (xi_ild 2 106) from xs_iload_n hΓ dX5_wordHere_105) rfl ?_
      obtain ⟨v3, e1, e⟩ := xo_b_s e
      refine xw_mch (tx := xk_W) hG (show xm_Imp g Γ 106 (xi_vir g 15 M_J6_charAt 11 1 109) from xs_invV hG hΓ k_J6_charAt rfl (ci := 15) rfl q3193 q928 q929 dX5_wordHere_106) hM hB (by decide) rfl e1 ?_
      refine xw_psh (v := (.int (32))) (show xm_Imp g Γ 109 (xi_psh (.int (32)) 111) from xs_bipush hΓ dX5_wordHere_109 (by decide)) ?_
      refine xw_ic (show xm_Imp g Γ 111 (xi_ic (fun x y => x = y) 121 114) from xs_icmp_eq hΓ dX5_wordHere_111 (by decide)) (fun c => ?_) (fun c => ?_)
      · rw [if_pos c] at e
        obtain ⟨_, e, hp⟩ := xl_o_s e (hP2 _ hp)
        refine xw_ild (show xm_Imp g Γ 121 (xi_ild 2 122) from xs_iload_n hΓ dX5_wordHere_121) rfl ?_
        refine xw_psh (v := (.int (1))) (show xm_Imp g Γ 122 (xi_psh (.int (1)) 123) from xs_iconst hΓ dX5_wordHere_122 (by decide)) ?_
        refine xw_ii (show xm_Imp g Γ 123 (xi_ii (fun x y => x + y) 124) from xs_iadd hΓ dX5_wordHere_123) ?_
        refine xw_ist (ls' := [some (.ref m), some (.int l1), some (.int (s + 1)), none]) (show xm_Imp g Γ 124 (xi_ist 2 125) from xs_istore_n hΓ dX5_wordHere_124 (Nat.le_of_ble_eq_true rfl)) rfl ?_
        refine xw_ild (show xm_Imp g Γ 125 (xi_ild 1 126) from xs_iload_n hΓ dX5_wordHere_125) rfl ?_
        refine xw_psh (v := (.int (1))) (show xm_Imp g Γ 126 (xi_psh (.int (1)) 127) from xs_iconst hΓ dX5_wordHere_126 (by decide)) ?_
        refine xw_ii (show xm_Imp g Γ 127 (xi_ii (fun x y => x + y) 128) from xs_iadd hΓ dX5_wordHere_127) ?_
        refine xw_ist (ls' := [some (.ref m), some (.int (l1 + 1)), some (.int (s + 1)), none]) (show xm_Imp g Γ 128 (xi_ist 1 129) from xs_istore_n hΓ dX5_wordHere_128 (Nat.le_of_ble_eq_true rfl)) rfl ?_
        refine xw_goto (show xm_Imp g Γ 129 (xi_goto 4) from xs_goto hΓ dX5_wordHere_129 (by decide)) ?_
        have hq := xl_P_inl (hP1 _ (xl_fin e hp)); exact hq
      · rw [if_neg c] at e
        refine xw_ild (show xm_Imp g Γ 114 (xi_ild 2 115) from xs_iload_n hΓ dX5_wordHere_114) rfl ?_
        refine xw_psh (v := (.int (1))) (show xm_Imp g Γ 115 (xi_psh (.int (1)) 116) from xs_iconst hΓ dX5_wordHere_115 (by decide)) ?_
        refine xw_ii (show xm_Imp g Γ 116 (xi_ii (fun x y => x + y) 117) from xs_iadd hΓ dX5_wordHere_116) ?_
        refine xw_ist (ls' := [some (.ref m), some (.int l1), some (.int (s + 1)), none]) (show xm_Imp g Γ 117 (xi_ist 2 118) from xs_istore_n hΓ dX5_wordHere_117 (Nat.le_of_ble_eq_true rfl)) rfl ?_
        refine xw_goto (show xm_Imp g Γ 118 (xi_goto 102) from xs_goto hΓ dX5_wordHere_118 (by decide)) ?_
        have hq := xl_P_inl (hP2 _ (xl_fin e hp)); exact hq
    have hB_73 : ∀ (l1 : Int32) (l2 : Int32) (l3 : Int32) (o : (Int32 × Int32) ⊕ (Int32)), B_X5_wordHere_73 l1 l2 l3 σ = some o → P1 o → xm_W g Γ 73 [some (.ref m), some (.int l1), some (.int l2), some (.int l3)] [] (xMp h0 m ad σ) 0 0 := by
      intro l1 l2 l3 o e hp
      unfold B_X5_wordHere_73 at e
      refine xw_psh (v := (.ref (xm_sa g "StringTableauModel" 271))) (show xm_Imp g Γ 73 (xi_psh (.ref (xm_sa g "StringTableauModel" 271)) 76) from xs_ldSw hG hΓ q3191 dX5_wordHere_73) ?_
      refine xw_ild (show xm_Imp g Γ 76 (xi_ild 2 77) from xs_iload_n hΓ dX5_wordHere_76) rfl ?_
      refine xw_ild (show xm_Imp g Γ 77 (xi_ild 3 78) from xs_iload_n hΓ dX5_wordHere_77) rfl ?_
      refine xw_ii (show xm_Imp g Γ 78 (xi_ii (fun x y => x + y) 79) from xs_iadd hΓ dX5_wordHere_78) ?_
      obtain ⟨v2, e1, e⟩ := xo_b_s e
      refine xw_mch (tx := xk_W) hG (show xm_Imp g Γ 79 (xi_vir g 15 M_J6_charAt 11 1 82) from xs_invV hG hΓ k_J6_charAt rfl (ci := 15) rfl q3193 q928 q929 dX5_wordHere_79) hM hB (by decide) rfl e1 ?_
      refine xw_psh (v := (.int (32))) (show xm_Imp g Γ 82 (xi_psh (.int (32)) 84) from xs_bipush hΓ dX5_wordHere_82 (by decide)) ?_
      refine xw_ic (show xm_Imp g Γ 84 (xi_ic (fun x y => x = y) 87 102) from xs_icmp_ne hΓ dX5_wordHere_84 (by decide)) (fun c => ?_) (fun c => ?_)
      · rw [if_pos c] at e
        refine xw_ald (show xm_Imp g Γ 87 (xi_ald 0 88) from xs_aload_n hΓ dX5_wordHere_87) rfl ?_
        refine xw_mgi (v := (σ.1 23)) (show xm_Imp g Γ 88 (xi_get 4 23 91) from xs_get hG hΓ (ci := 4) (kf := 23) rfl (Nat.le_of_ble_eq_true rfl) q2873 dX5_wordHere_88) (fun _ => rfl) rfl ?_
        refine xw_ild (show xm_Imp g Γ 91 (xi_ild 3 92) from xs_iload_n hΓ dX5_wordHere_91) rfl ?_
        refine xw_ii (show xm_Imp g Γ 92 (xi_ii (fun x y => x + y) 93) from xs_iadd hΓ dX5_wordHere_92) ?_
        refine xw_ald (show xm_Imp g Γ 93 (xi_ald 0 94) from xs_aload_n hΓ dX5_wordHere_93) rfl ?_
        refine xw_mgi (v := (σ.1 22)) (show xm_Imp g Γ 94 (xi_get 4 22 97) from xs_get hG hΓ (ci := 4) (kf := 22) rfl (Nat.le_of_ble_eq_true rfl) q2872 dX5_wordHere_94) (fun _ => rfl) rfl ?_
        refine xw_ic (show xm_Imp g Γ 97 (xi_ic (fun x y => x = y) 100 102) from xs_icmp_ne hΓ dX5_wordHere_97 (by decide)) (fun c => ?_) (fun c => ?_)
        · rw [if_pos c] at e
          obtain ⟨_, e, hp⟩ := xl_o_s e (hP1 _ hp)
          refine xw_ild (show xm_Imp g Γ 100 (xi_ild 1 101) from xs_iload_n hΓ dX5_wordHere_100) rfl ?_
          exact xw_iret (show xm_Imp g Γ 101 (xi_iret .int _) from xs_ireturn hΓ rfl dX5_wordHere_101) (xn_int _) (hP0 _ (xl_fin e hp))
        · rw [if_neg c] at e
          exact xm_lx (hL_102 _ _ _ e hp) (And.intro rfl (And.intro rfl (And.intro rfl (trivial))))
      · rw [if_neg c] at e
        exact xm_lx (hL_102 _ _ _ e hp) (And.intro rfl (And.intro rfl (And.intro rfl (trivial))))
    have hL_16 : ∀ (l1 : Int32) (l2 : Int32) (s : Int32) (o : (Int32 × Int32) ⊕ (Int32)), L_X5_wordHere_16 l1 l2 σ s = some o → P1 o → xm_W g Γ 16 [some (.ref m), some (.int l1), some (.int l2), some (.int s)] [] (xMp h0 m ad σ) 0 0 := by
      intro l1 l2
      refine xl_rule (WS := fun s : Int32 => xm_W g Γ 16 [some (.ref m), some (.int l1), some (.int l2), some (.int s)] [] (xMp h0 m ad σ) 0 0) ?_
      intro s o e hp
      obtain ⟨P2, hP2, hp⟩ : ∃ P : (Int32) ⊕ ((Int32 × Int32) ⊕ (Int32)) → Prop, (∀ o, P o → xl_P (fun s : Int32 => xm_W g Γ 16 [some (.ref m), some (.int l1), some (.int l2), some (.int s)] [] (xMp h0 m ad σ) 0 0) P1 o) ∧ P o := ⟨_, fun _ h => h, hp⟩
      unfold D_X5_wordHere_16 at e
      refine xw_psh (v := (.ref (xm_sa g "StringTableauModel" 271))) (show xm_Imp g Γ 16 (xi_psh (.ref (xm_sa g "StringTableauModel" 271)) 19) from xs_ldSw hG hΓ q3191 dX5_wordHere_16) ?_
      refine xw_ild (show xm_Imp g Γ 19 (xi_ild 2 20) from xs_iload_n hΓ dX5_wordHere_19) rfl ?_
      refine xw_ild (show xm_Imp g Γ 20 (xi_ild 3 21) from xs_iload_n hΓ dX5_wordHere_20) rfl ?_
      refine xw_ii (show xm_Imp g Γ 21 (xi_ii (fun x y => x + y) 22) from xs_iadd hΓ dX5_wordHere_21) ?_
      obtain ⟨v1, e1, e⟩ := xo_b_s e
      refine xw_mch (tx := xk_W) hG (show xm_Imp g Γ 22 (xi_vir g 15 M_J6_charAt 11 1 25) from xs_invV hG hΓ k_J6_charAt rfl (ci := 15) rfl q3193 q928 q929 dX5_wordHere_22) hM hB (by decide) rfl e1 ?_
      refine xw_psh (v := (.int (32))) (show xm_Imp g Γ 25 (xi_psh (.int (32)) 27) from xs_bipush hΓ dX5_wordHere_25 (by decide)) ?_
      refine xw_ic (show xm_Imp g Γ 27 (xi_ic (fun x y => x = y) 73 30) from xs_icmp_eq hΓ dX5_wordHere_27 (by decide)) (fun c => ?_) (fun c => ?_)
      · rw [if_pos c] at e
        obtain ⟨_, e, hp⟩ := xl_o_s e (hP2 _ hp)
        exact hB_73 _ _ _ _ e hp
      · rw [if_neg c] at e
        refine xw_ald (show xm_Imp g Γ 30 (xi_ald 0 31) from xs_aload_n hΓ dX5_wordHere_30) rfl ?_
        refine xw_mgi (v := (σ.1 23)) (show xm_Imp g Γ 31 (xi_get 4 23 34) from xs_get hG hΓ (ci := 4) (kf := 23) rfl (Nat.le_of_ble_eq_true rfl) q2873 dX5_wordHere_31) (fun _ => rfl) rfl ?_
        refine xw_ild (show xm_Imp g Γ 34 (xi_ild 3 35) from xs_iload_n hΓ dX5_wordHere_34) rfl ?_
        refine xw_ii (show xm_Imp g Γ 35 (xi_ii (fun x y => x + y) 36) from xs_iadd hΓ dX5_wordHere_35) ?_
        refine xw_ald (show xm_Imp g Γ 36 (xi_ald 0 37) from xs_aload_n hΓ dX5_wordHere_36) rfl ?_
        refine xw_mgi (v := (σ.1 22)) (show xm_Imp g Γ 37 (xi_get 4 22 40) from xs_get hG hΓ (ci := 4) (kf := 22) rfl (Nat.le_of_ble_eq_true rfl) q2872 dX5_wordHere_37) (fun _ => rfl) rfl ?_
        refine xw_ic (show xm_Imp g Γ 40 (xi_ic (fun x y => y ≤ x) 73 43) from xs_icmp_ge hΓ dX5_wordHere_40 (by decide)) (fun c => ?_) (fun c => ?_)
        · rw [if_pos c] at e
          obtain ⟨_, e, hp⟩ := xl_o_s e (hP2 _ hp)
          exact hB_73 _ _ _ _ e hp
        · rw [if_neg c] at e
          refine xw_ald (show xm_Imp g Γ 43 (xi_ald 0 44) from xs_aload_n hΓ dX5_wordHere_43) rfl ?_
          refine xw_mga (k := 19) (show xm_Imp g Γ 44 (xi_get 4 19 47) from xs_get hG hΓ (ci := 4) (kf := 19) rfl (Nat.le_of_ble_eq_true rfl) q2869 dX5_wordHere_44) (fun _ => rfl) ?_
          refine xw_ald (show xm_Imp g Γ 47 (xi_ald 0 48) from xs_aload_n hΓ dX5_wordHere_47) rfl ?_
          refine xw_mgi (v := (σ.1 23)) (show xm_Imp g Γ 48 (xi_get 4 23 51) from xs_get hG hΓ (ci := 4) (kf := 23) rfl (Nat.le_of_ble_eq_true rfl) q2873 dX5_wordHere_48) (fun _ => rfl) rfl ?_
          refine xw_ild (show xm_Imp g Γ 51 (xi_ild 3 52) from xs_iload_n hΓ dX5_wordHere_51) rfl ?_
          refine xw_ii (show xm_Imp g Γ 52 (xi_ii (fun x y => x + y) 53) from xs_iadd hΓ dX5_wordHere_52) ?_
          obtain ⟨j4, e1, e⟩ := xo_b_s e
          refine xw_mbal (k := 19) (v := (σ.2 19 j4)) (show xm_Imp g Γ 53 (xi_bal 54) from xs_bal hG hΓ dX5_wordHere_53) hM (by decide) rfl e1 rfl ?_
          refine xw_psh (v := (.ref (xm_sa g "StringTableauModel" 271))) (show xm_Imp g Γ 54 (xi_psh (.ref (xm_sa g "StringTableauModel" 271)) 57) from xs_ldSw hG hΓ q3191 dX5_wordHere_54) ?_
          refine xw_ild (show xm_Imp g Γ 57 (xi_ild 2 58) from xs_iload_n hΓ dX5_wordHere_57) rfl ?_
          refine xw_ild (show xm_Imp g Γ 58 (xi_ild 3 59) from xs_iload_n hΓ dX5_wordHere_58) rfl ?_
          refine xw_ii (show xm_Imp g Γ 59 (xi_ii (fun x y => x + y) 60) from xs_iadd hΓ dX5_wordHere_59) ?_
          obtain ⟨v5, e1, e⟩ := xo_b_s e
          refine xw_mch (tx := xk_W) hG (show xm_Imp g Γ 60 (xi_vir g 15 M_J6_charAt 11 1 63) from xs_invV hG hΓ k_J6_charAt rfl (ci := 15) rfl q3193 q928 q929 dX5_wordHere_60) hM hB (by decide) rfl e1 ?_
          refine xw_ic (show xm_Imp g Γ 63 (xi_ic (fun x y => x = y) 66 73) from xs_icmp_ne hΓ dX5_wordHere_63 (by decide)) (fun c => ?_) (fun c => ?_)
          · rw [if_pos c] at e
            refine xw_ild (show xm_Imp g Γ 66 (xi_ild 3 67) from xs_iload_n hΓ dX5_wordHere_66) rfl ?_
            refine xw_psh (v := (.int (1))) (show xm_Imp g Γ 67 (xi_psh (.int (1)) 68) from xs_iconst hΓ dX5_wordHere_67 (by decide)) ?_
            refine xw_ii (show xm_Imp g Γ 68 (xi_ii (fun x y => x + y) 69) from xs_iadd hΓ dX5_wordHere_68) ?_
            refine xw_ist (ls' := [some (.ref m), some (.int l1), some (.int l2), some (.int (s + 1))]) (show xm_Imp g Γ 69 (xi_ist 3 70) from xs_istore_n hΓ dX5_wordHere_69 (Nat.le_of_ble_eq_true rfl)) rfl ?_
            refine xw_goto (show xm_Imp g Γ 70 (xi_goto 16) from xs_goto hΓ dX5_wordHere_70 (by decide)) ?_
            have hq := xl_P_inl (hP2 _ (xl_fin e hp)); exact hq
          · rw [if_neg c] at e
            obtain ⟨_, e, hp⟩ := xl_o_s e (hP2 _ hp)
            exact hB_73 _ _ _ _ e hp
    unfold D_X5_wordHere_4 at e
    refine xw_ild (show xm_Imp g Γ 4 (xi_ild 2 5) from xs_iload_n hΓ dX5_wordHere_4) rfl ?_
    refine xw_psh (v := (.ref (xm_sa g "StringTableauModel" 271))) (show xm_Imp g Γ 5 (xi_psh (.ref (xm_sa g "StringTableauModel" 271)) 8) from xs_ldSw hG hΓ q3191 dX5_wordHere_5) ?_
    refine xw_mlen (tx := xk_W) hG (show xm_Imp g Γ 8 (xi_vir g 15 M_J6_length 2 0 11) from xs_invV hG hΓ k_J6_length rfl (ci := 15) rfl q3192 q647 q648 dX5_wordHere_8) hM hB (by decide) rfl ?_
    refine xw_ic (show xm_Imp g Γ 11 (xi_ic (fun x y => y ≤ x) 132 14) from xs_icmp_ge hΓ dX5_wordHere_11 (by decide)) (fun c => ?_) (fun c => ?_)
    · rw [if_pos c] at e
      obtain ⟨_, e, hp⟩ := xl_o_s e (hP1 _ hp)
      refine xw_psh (v := (.int (-1))) (show xm_Imp g Γ 132 (xi_psh (.int (-1)) 133) from xs_iconst hΓ dX5_wordHere_132 (by decide)) ?_
      exact xw_iret (show xm_Imp g Γ 133 (xi_iret .int _) from xs_ireturn hΓ rfl dX5_wordHere_133) (xn_int _) (hP0 _ (xl_fin e hp))
    · rw [if_neg c] at e
      refine xw_psh (v := (.int (0))) (show xm_Imp g Γ 14 (xi_psh (.int (0)) 15) from xs_iconst hΓ dX5_wordHere_14 (by decide)) ?_
      refine xw_ist (ls' := [some (.ref m), some (.int s.1), some (.int s.2), some (.int 0)]) (show xm_Imp g Γ 15 (xi_ist 3 16) from xs_istore_n hΓ dX5_wordHere_15 (Nat.le_of_ble_eq_true rfl)) rfl ?_
      exact hL_16 _ _ _ _ e hp
  unfold F_X5_wordHere at e
  refine xw_psh (v := (.int (0))) (show xm_Imp g Γ 0 (xi_psh (.int (0)) 1) from xs_iconst hΓ dX5_wordHere_0 (by decide)) ?_
  refine xw_ist (ls' := [some (.ref m), some (.int 0), none, none]) (show xm_Imp g Γ 1 (xi_ist 1 2) from xs_istore_n hΓ dX5_wordHere_1 (Nat.le_of_ble_eq_true rfl)) rfl ?_
  refine xw_psh (v := (.int (0))) (show xm_Imp g Γ 2 (xi_psh (.int (0)) 3) from xs_iconst hΓ dX5_wordHere_2 (by decide)) ?_
  refine xw_ist (ls' := [some (.ref m), some (.int 0), some (.int 0), none]) (show xm_Imp g Γ 3 (xi_ist 2 4) from xs_istore_n hΓ dX5_wordHere_3 (Nat.le_of_ble_eq_true rfl)) rfl ?_
  exact hL_4 _ _ e hp
noncomputable def B_X5_next_26 (σ : xM_S) : Option ((xM_S) ⊕ (xM_S)) :=
 some (Sum.inl (xM_f σ 22 ((σ.1 22) + 1)))
noncomputable def B_X5_next_333 (s1 : Int32) (σ : xM_S) : Option (xM_S) :=
 some (xM_f σ 24 s1)
noncomputable def B_X5_next_301 (σ : xM_S) : Option ((xM_S) ⊕ (xM_S)) :=
 some (Sum.inl (xM_f σ 22 ((σ.1 22) + 1)))
noncomputable def D_X5_next_244  (s : xM_S) : Option ((xM_S) ⊕ (xM_S)) :=
 xo_b (F_X5_here (s.1 22) s) (fun v4 =>
 (if (F_X5_isIn v4.toInt64 48 57) = 0 then
 xl_o (B_X5_next_333 (if ((s.1 22) - (s.1 23)) ≤ 4 then 3 else 5) s) else
 (if 4 ≤ ((s.1 22) - (s.1 23)) then
 B_X5_next_301 s else
 xo_b (F_X5_here (s.1 22) s) (fun v5 =>
 B_X5_next_301 (xM_f s 26 (((10 * (s.1 26)) + v5) - 48))))))
noncomputable def L_X5_next_244  (s : xM_S) : Option (xM_S) := xl_loop (D_X5_next_244 ) s
noncomputable def B_X5_next_212 (σ : xM_S) : Option ((xM_S) ⊕ (xM_S)) :=
 some (Sum.inl (xM_f σ 22 ((σ.1 22) + 1)))
noncomputable def D_X5_next_152  (s : xM_S) : Option ((xM_S) ⊕ (xM_S)) :=
 xo_b (F_X5_here (s.1 22) s) (fun v6 =>
 (if (F_X5_isIn v6.toInt64 65 90) = 0 then
 xl_o (some s) else
 xo_b (F_X5_here (s.1 22) s) (fun v7 =>
 (if v7 = 73 then
 B_X5_next_212 s else
 xo_b (F_X5_here (s.1 22) s) (fun v8 =>
 (if (F_X5_isIn v8.toInt64 88 90) = 0 then
 B_X5_next_212 (xM_f s 24 5) else
 B_X5_next_212 s))))))
noncomputable def L_X5_next_152  (s : xM_S) : Option (xM_S) := xl_loop (D_X5_next_152 ) s
noncomputable def D_X5_next_83  (s : xM_S) : Option ((xM_S) ⊕ (xM_S)) :=
 xo_b (F_X5_here (s.1 22) s) (fun v9 =>
 (if (F_X5_isIn v9.toInt64 97 122) = 0 then
 xl_o (xo_b (F_X5_wordHere (xM_f s 24 1)) (fun v10 =>
 some (xM_f (xM_f s 24 1) 25 v10))) else
 some (Sum.inl (xM_f s 22 ((s.1 22) + 1)))))
noncomputable def L_X5_next_83  (s : xM_S) : Option (xM_S) := xl_loop (D_X5_next_83 ) s
noncomputable def D_X5_next_0  (s : xM_S) : Option ((xM_S) ⊕ (xM_S)) :=
 xo_b (F_X5_here (s.1 22) s) (fun v1 =>
 (if v1 = 32 then
 B_X5_next_26 s else
 xo_b (F_X5_here (s.1 22) s) (fun v2 =>
 (if v2 = 10 then
 B_X5_next_26 s else
 xl_o (xo_b (F_X5_here (s.1 22) (xM_f s 23 (s.1 22))) (fun v3 =>
 (if v3 = (-1) then
 some (xM_f (xM_f s 23 (s.1 22)) 24 0) else
 (if (F_X5_isIn v3.toInt64 97 122) = 0 then
 (if (F_X5_isIn v3.toInt64 65 90) = 0 then
 (if (F_X5_isIn v3.toInt64 48 57) = 0 then
 some (xM_f (xM_f (xM_f (xM_f s 23 (s.1 22)) 22 ((s.1 22) + 1)) 24 4) 25 v3) else
 L_X5_next_244 (xM_f (xM_f s 23 (s.1 22)) 26 0)) else
 L_X5_next_152 (xM_f (xM_f s 23 (s.1 22)) 24 2)) else
 L_X5_next_83 (xM_f s 23 (s.1 22))))))))))
noncomputable def L_X5_next_0  (s : xM_S) : Option (xM_S) := xl_loop (D_X5_next_0 ) s
noncomputable def F_X5_next (σ : xM_S) : Option (xM_S) :=
 L_X5_next_0 σ
set_option maxHeartbeats 4000000 in
theorem K_X5_next {g : xm_G} (hG : xm_Gw g) {h0 : xm_H} {m : Nat} {ad : Nat → Nat} (hM : xM_ok h0 m ad) (hB : xk_B g h0)  (σ : xM_S) {o : xM_S} (e : F_X5_next σ = some o) {Q : xm_P} {X : xm_X} (hQ : Q none (xMp h0 m ad o)) : xm_Run g M_X5_next 13 [.ref m] (xMp h0 m ad σ) 0 0 Q X := by
  refine xm_Run.of pn_StringTableauModel (Nat.le_of_ble_eq_true rfl) (fun Γ hΓ => ?_)
  obtain ⟨P0, hP0, hp⟩ : ∃ P : xM_S → Prop, (∀ o, P o → Q none (xMp h0 m ad o)) ∧ P o := ⟨fun o => Q none (xMp h0 m ad o), fun _ h => h, hQ⟩
  clear hQ
  show xm_W g Γ 0 [some (.ref m), none] [] (xMp h0 m ad σ) 0 0
  have hB_333 : ∀ (s1 : Int32) (σ : xM_S) (o : xM_S), B_X5_next_333 s1 σ = some o → P0 o → xm_W g Γ 333 [none, none] [.int s1, .ref m] (xMp h0 m ad σ) 0 0 := by
    intro s1 σ o e hp
    unfold B_X5_next_333 at e
    refine xw_mpi (show xm_Imp g Γ 333 (xi_put 4 24 (.int) 336) from xs_put hG hΓ (ci := 4) (kf := 24) rfl (Nat.le_of_ble_eq_true rfl) rfl (by decide +kernel) q2874 dX5_next_333) (fun _ _ => rfl) ⟨rfl, rfl⟩ ?_
    refine xw_goto (show xm_Imp g Γ 336 (xi_goto 359) from xs_goto hΓ dX5_next_336 (by decide)) ?_
    exact xw_vret (show xm_Imp g Γ 359 (xi_vret _) from xs_return hΓ rfl dX5_next_359) (hP0 _ (xl_fin e hp))
  have hL_244 : ∀  (s : xM_S) (o : xM_S), L_X5_next_244  s = some o → P0 o → xm_W g Γ 244 [some (.ref m), none] [] (xMp h0 m ad s) 0 0 := by
    skip
    refine xl_rule (WS := fun s : xM_S => xm_W g Γ 244 [some (.ref m), none] [] (xMp h0 m ad s) 0 0) ?_
    intro s o e hp
    obtain ⟨P1, hP1, hp⟩ : ∃ P : (xM_S) ⊕ (xM_S) → Prop, (∀ o, P o → xl_P (fun s : xM_S => xm_W g Γ 244 [some (.ref m), none] [] (xMp h0 m ad s) 0 0) P0 o) ∧ P o := ⟨_, fun _ h => h, hp⟩
    have hB_301 : ∀ (σ : xM_S) (o : (xM_S) ⊕ (xM_S)), B_X5_next_301 σ = some o → P1 o → xm_W g Γ 301 [some (.ref m), none] [] (xMp h0 m ad σ) 0 0 := by
      intro σ o e hp
      unfold B_X5_next_301 at e
      refine xw_ald (show xm_Imp g Γ 301 (xi_ald 0 302) from xs_aload_n hΓ dX5_next_301) rfl ?_
      refine xw_dup (show xm_Imp g Γ 302 (xi_dup 303) from xs_dup hΓ dX5_next_302) rfl ?_
      refine xw_mgi (v := (σ.1 22)) (show xm_Imp g Γ 303 (xi_get 4 22 306) from xs_get hG hΓ (ci := 4) (kf := 22) rfl (Nat.le_of_ble_eq_true rfl) q2872 dX5_next_303) (fun _ => rfl) rfl ?_
      refine xw_psh (v := (.int (1))) (show xm_Imp g Γ 306 (xi_psh (.int (1)) 307) from xs_iconst hΓ dX5_next_306 (by decide)) ?_
      refine xw_ii (show xm_Imp g Γ 307 (xi_ii (fun x y => x + y) 308) from xs_iadd hΓ dX5_next_307) ?_
      refine xw_mpi (show xm_Imp g Γ 308 (xi_put 4 22 (.int) 311) from xs_put hG hΓ (ci := 4) (kf := 22) rfl (Nat.le_of_ble_eq_true rfl) rfl (by decide +kernel) q2872 dX5_next_308) (fun _ _ => rfl) ⟨rfl, rfl⟩ ?_
      refine xw_goto (show xm_Imp g Γ 311 (xi_goto 244) from xs_goto hΓ dX5_next_311 (by decide)) ?_
      have hq := xl_P_inl (hP1 _ (xl_fin e hp)); exact hq
    unfold D_X5_next_244 at e
    refine xw_ald (show xm_Imp g Γ 244 (xi_ald 0 245) from xs_aload_n hΓ dX5_next_244) rfl ?_
    refine xw_ald (show xm_Imp g Γ 245 (xi_ald 0 246) from xs_aload_n hΓ dX5_next_245) rfl ?_
    refine xw_mgi (v := (s.1 22)) (show xm_Imp g Γ 246 (xi_get 4 22 249) from xs_get hG hΓ (ci := 4) (kf := 22) rfl (Nat.le_of_ble_eq_true rfl) q2872 dX5_next_246) (fun _ => rfl) rfl ?_
    obtain ⟨v4, e1, e⟩ := xo_b_s e
    refine xw_mv1 (show xm_Imp g Γ 249 (xi_vir g 4 M_X5_here 1 1 252) from xs_invV hG hΓ k_X5_here rfl (ci := 4) rfl q3181 q3183 qs76 dX5_next_249) rfl (fun Q X hQ => K_X5_here hG hM hB (s.1 22) s e1 hQ) ?_
    refine xw_i2l (show xm_Imp g Γ 252 (xi_i2l 253) from xs_i2l hΓ dX5_next_252) ?_
    refine xw_psh (v := (.long (48))) (show xm_Imp g Γ 253 (xi_psh (.long (48)) 256) from xs_ldc2 hG hΓ q3197 dX5_next_253) ?_
    refine xw_psh (v := (.long (57))) (show xm_Imp g Γ 256 (xi_psh (.long (57)) 259) from xs_ldc2 hG hΓ q3198 dX5_next_256) ?_
    refine xw_sv3 (show xm_Imp g Γ 259 (xi_inv g M_X5_isIn 1 3 262) from xs_invS hG hΓ k_X5_isIn rfl q2996 q2997 dX5_next_259) rfl (fun Q X hQ => K_X5_isIn hG v4.toInt64 48 57 rfl hQ) ?_
    refine xw_if (show xm_Imp g Γ 262 (xi_if (fun x => x = 0) 314 265) from xs_if_eq hΓ dX5_next_262 (by decide)) (fun c => ?_) (fun c => ?_)
    · rw [if_pos c] at e
      obtain ⟨_, e, hp⟩ := xl_o_s e (hP1 _ hp)
      refine xw_ald (show xm_Imp g Γ 314 (xi_ald 0 315) from xs_aload_n hΓ dX5_next_314) rfl ?_
      refine xw_ald (show xm_Imp g Γ 315 (xi_ald 0 316) from xs_aload_n hΓ dX5_next_315) rfl ?_
      refine xw_mgi (v := (s.1 22)) (show xm_Imp g Γ 316 (xi_get 4 22 319) from xs_get hG hΓ (ci := 4) (kf := 22) rfl (Nat.le_of_ble_eq_true rfl) q2872 dX5_next_316) (fun _ => rfl) rfl ?_
      refine xw_ald (show xm_Imp g Γ 319 (xi_ald 0 320) from xs_aload_n hΓ dX5_next_319) rfl ?_
      refine xw_mgi (v := (s.1 23)) (show xm_Imp g Γ 320 (xi_get 4 23 323) from xs_get hG hΓ (ci := 4) (kf := 23) rfl (Nat.le_of_ble_eq_true rfl) q2873 dX5_next_320) (fun _ => rfl) rfl ?_
      refine xw_ii (show xm_Imp g Γ 323 (xi_ii (fun x y => x - y) 324) from xs_isub hΓ dX5_next_323) ?_
      refine xw_psh (v := (.int (4))) (show xm_Imp g Γ 324 (xi_psh (.int (4)) 325) from xs_iconst hΓ dX5_next_324 (by decide)) ?_
      refine xw_ic (show xm_Imp g Γ 325 (xi_ic (fun x y => x ≤ y) 332 328) from xs_icmp_le hΓ dX5_next_325 (by decide)) (fun c => ?_) (fun c => ?_)
      · rw [if_pos c] at e
        refine xw_psh (v := (.int (3))) (show xm_Imp g Γ 332 (xi_psh (.int (3)) 333) from xs_iconst hΓ dX5_next_332 (by decide)) ?_
        exact xm_lx (hB_333 _ _ _ e hp) (trivial)
      · rw [if_neg c] at e
        refine xw_psh (v := (.int (5))) (show xm_Imp g Γ 328 (xi_psh (.int (5)) 329) from xs_iconst hΓ dX5_next_328 (by decide)) ?_
        refine xw_goto (show xm_Imp g Γ 329 (xi_goto 333) from xs_goto hΓ dX5_next_329 (by decide)) ?_
        exact xm_lx (hB_333 _ _ _ e hp) (trivial)
    · rw [if_neg c] at e
      refine xw_ald (show xm_Imp g Γ 265 (xi_ald 0 266) from xs_aload_n hΓ dX5_next_265) rfl ?_
      refine xw_mgi (v := (s.1 22)) (show xm_Imp g Γ 266 (xi_get 4 22 269) from xs_get hG hΓ (ci := 4) (kf := 22) rfl (Nat.le_of_ble_eq_true rfl) q2872 dX5_next_266) (fun _ => rfl) rfl ?_
      refine xw_ald (show xm_Imp g Γ 269 (xi_ald 0 270) from xs_aload_n hΓ dX5_next_269) rfl ?_
      refine xw_mgi (v := (s.1 23)) (show xm_Imp g Γ 270 (xi_get 4 23 273) from xs_get hG hΓ (ci := 4) (kf := 23) rfl (Nat.le_of_ble_eq_true rfl) q2873 dX5_next_270) (fun _ => rfl) rfl ?_
      refine xw_ii (show xm_Imp g Γ 273 (xi_ii (fun x y => x - y) 274) from xs_isub hΓ dX5_next_273) ?_
      refine xw_psh (v := (.int (4))) (show xm_Imp g Γ 274 (xi_psh (.int (4)) 275) from xs_iconst hΓ dX5_next_274 (by decide)) ?_
      refine xw_ic (show xm_Imp g Γ 275 (xi_ic (fun x y => y ≤ x) 301 278) from xs_icmp_ge hΓ dX5_next_275 (by decide)) (fun c => ?_) (fun c => ?_)
      · rw [if_pos c] at e
        exact hB_301 _ _ e hp
      · rw [if_neg c] at e
        refine xw_ald (show xm_Imp g Γ 278 (xi_ald 0 279) from xs_aload_n hΓ dX5_next_278) rfl ?_
        refine xw_psh (v := (.int (10))) (show xm_Imp g Γ 279 (xi_psh (.int (10)) 281) from xs_bipush hΓ dX5_next_279 (by decide)) ?_
        refine xw_ald (show xm_Imp g Γ 281 (xi_ald 0 282) from xs_aload_n hΓ dX5_next_281) rfl ?_
        refine xw_mgi (v := (s.1 26)) (show xm_Imp g Γ 282 (xi_get 4 26 285) from xs_get hG hΓ (ci := 4) (kf := 26) rfl (Nat.le_of_ble_eq_true rfl) q2876 dX5_next_282) (fun _ => rfl) rfl ?_
        refine xw_ii (show xm_Imp g Γ 285 (xi_ii (fun x y => x * y) 286) from xs_imul hΓ dX5_next_285) ?_
        refine xw_ald (show xm_Imp g Γ 286 (xi_ald 0 287) from xs_aload_n hΓ dX5_next_286) rfl ?_
        refine xw_ald (show xm_Imp g Γ 287 (xi_ald 0 288) from xs_aload_n hΓ dX5_next_287) rfl ?_
        refine xw_mgi (v := (s.1 22)) (show xm_Imp g Γ 288 (xi_get 4 22 291) from xs_get hG hΓ (ci := 4) (kf := 22) rfl (Nat.le_of_ble_eq_true rfl) q2872 dX5_next_288) (fun _ => rfl) rfl ?_
        obtain ⟨v5, e1, e⟩ := xo_b_s e
        refine xw_mv1 (show xm_Imp g Γ 291 (xi_vir g 4 M_X5_here 1 1 294) from xs_invV hG hΓ k_X5_here rfl (ci := 4) rfl q3181 q3183 qs76 dX5_next_291) rfl (fun Q X hQ => K_X5_here hG hM hB (s.1 22) s e1 hQ) ?_
        refine xw_ii (show xm_Imp g Γ 294 (xi_ii (fun x y => x + y) 295) from xs_iadd hΓ dX5_next_294) ?_
        refine xw_psh (v := (.int (48))) (show xm_Imp g Γ 295 (xi_psh (.int (48)) 297) from xs_bipush hΓ dX5_next_295 (by decide)) ?_
        refine xw_ii (show xm_Imp g Γ 297 (xi_ii (fun x y => x - y) 298) from xs_isub hΓ dX5_next_297) ?_
        refine xw_mpi (show xm_Imp g Γ 298 (xi_put 4 26 (.int) 301) from xs_put hG hΓ (ci := 4) (kf := 26) rfl (Nat.le_of_ble_eq_true rfl) rfl (by decide +kernel) q2876 dX5_next_298) (fun _ _ => rfl) ⟨rfl, rfl⟩ ?_
        exact hB_301 _ _ e hp
  have hL_152 : ∀  (s : xM_S) (o : xM_S), L_X5_next_152  s = some o → P0 o → xm_W g Γ 152 [some (.ref m), none] [] (xMp h0 m ad s) 0 0 := by
    skip
    refine xl_rule (WS := fun s : xM_S => xm_W g Γ 152 [some (.ref m), none] [] (xMp h0 m ad s) 0 0) ?_
    intro s o e hp
    obtain ⟨P1, hP1, hp⟩ : ∃ P : (xM_S) ⊕ (xM_S) → Prop, (∀ o, P o → xl_P (fun s : xM_S => xm_W g Γ 152 [some (.ref m), none] [] (xMp h0 m ad s) 0 0) P0 o) ∧ P o := ⟨_, fun _ h => h, hp⟩
    have hB_212 : ∀ (σ : xM_S) (o : (xM_S) ⊕ (xM_S)), B_X5_next_212 σ = some o → P1 o → xm_W g Γ 212 [some (.ref m), none] [] (xMp h0 m ad σ) 0 0 := by
      intro σ o e hp
      unfold B_X5_next_212 at e
      refine xw_ald (show xm_Imp g Γ 212 (xi_ald 0 213) from xs_aload_n hΓ dX5_next_212) rfl ?_
      refine xw_dup (show xm_Imp g Γ 213 (xi_dup 214) from xs_dup hΓ dX5_next_213) rfl ?_
      refine xw_mgi (v := (σ.1 22)) (show xm_Imp g Γ 214 (xi_get 4 22 217) from xs_get hG hΓ (ci := 4) (kf := 22) rfl (Nat.le_of_ble_eq_true rfl) q2872 dX5_next_214) (fun _ => rfl) rfl ?_
      refine xw_psh (v := (.int (1))) (show xm_Imp g Γ 217 (xi_psh (.int (1)) 218) from xs_iconst hΓ dX5_next_217 (by decide)) ?_
      refine xw_ii (show xm_Imp g Γ 218 (xi_ii (fun x y => x + y) 219) from xs_iadd hΓ dX5_next_218) ?_
      refine xw_mpi (show xm_Imp g Γ 219 (xi_put 4 22 (.int) 222) from xs_put hG hΓ (ci := 4) (kf := 22) rfl (Nat.le_of_ble_eq_true rfl) rfl (by decide +kernel) q2872 dX5_next_219) (fun _ _ => rfl) ⟨rfl, rfl⟩ ?_
      refine xw_goto (show xm_Imp g Γ 222 (xi_goto 152) from xs_goto hΓ dX5_next_222 (by decide)) ?_
      have hq := xl_P_inl (hP1 _ (xl_fin e hp)); exact hq
    unfold D_X5_next_152 at e
    refine xw_ald (show xm_Imp g Γ 152 (xi_ald 0 153) from xs_aload_n hΓ dX5_next_152) rfl ?_
    refine xw_ald (show xm_Imp g Γ 153 (xi_ald 0 154) from xs_aload_n hΓ dX5_next_153) rfl ?_
    refine xw_mgi (v := (s.1 22)) (show xm_Imp g Γ 154 (xi_get 4 22 157) from xs_get hG hΓ (ci := 4) (kf := 22) rfl (Nat.le_of_ble_eq_true rfl) q2872 dX5_next_154) (fun _ => rfl) rfl ?_
    obtain ⟨v6, e1, e⟩ := xo_b_s e
    refine xw_mv1 (show xm_Imp g Γ 157 (xi_vir g 4 M_X5_here 1 1 160) from xs_invV hG hΓ k_X5_here rfl (ci := 4) rfl q3181 q3183 qs76 dX5_next_157) rfl (fun Q X hQ => K_X5_here hG hM hB (s.1 22) s e1 hQ) ?_
    refine xw_i2l (show xm_Imp g Γ 160 (xi_i2l 161) from xs_i2l hΓ dX5_next_160) ?_
    refine xw_psh (v := (.long (65))) (show xm_Imp g Γ 161 (xi_psh (.long (65)) 164) from xs_ldc2 hG hΓ q3194 dX5_next_161) ?_
    refine xw_psh (v := (.long (90))) (show xm_Imp g Γ 164 (xi_psh (.long (90)) 167) from xs_ldc2 hG hΓ q3195 dX5_next_164) ?_
    refine xw_sv3 (show xm_Imp g Γ 167 (xi_inv g M_X5_isIn 1 3 170) from xs_invS hG hΓ k_X5_isIn rfl q2996 q2997 dX5_next_167) rfl (fun Q X hQ => K_X5_isIn hG v6.toInt64 65 90 rfl hQ) ?_
    refine xw_if (show xm_Imp g Γ 170 (xi_if (fun x => x = 0) 359 173) from xs_if_eq hΓ dX5_next_170 (by decide)) (fun c => ?_) (fun c => ?_)
    · rw [if_pos c] at e
      obtain ⟨_, e, hp⟩ := xl_o_s e (hP1 _ hp)
      exact xw_vret (show xm_Imp g Γ 359 (xi_vret _) from xs_return hΓ rfl dX5_next_359) (hP0 _ (xl_fin e hp))
    · rw [if_neg c] at e
      refine xw_ald (show xm_Imp g Γ 173 (xi_ald 0 174) from xs_aload_n hΓ dX5_next_173) rfl ?_
      refine xw_ald (show xm_Imp g Γ 174 (xi_ald 0 175) from xs_aload_n hΓ dX5_next_174) rfl ?_
      refine xw_mgi (v := (s.1 22)) (show xm_Imp g Γ 175 (xi_get 4 22 178) from xs_get hG hΓ (ci := 4) (kf := 22) rfl (Nat.le_of_ble_eq_true rfl) q2872 dX5_next_175) (fun _ => rfl) rfl ?_
      obtain ⟨v7, e1, e⟩ := xo_b_s e
      refine xw_mv1 (show xm_Imp g Γ 178 (xi_vir g 4 M_X5_here 1 1 181) from xs_invV hG hΓ k_X5_here rfl (ci := 4) rfl q3181 q3183 qs76 dX5_next_178) rfl (fun Q X hQ => K_X5_here hG hM hB (s.1 22) s e1 hQ) ?_
      refine xw_psh (v := (.int (73))) (show xm_Imp g Γ 181 (xi_psh (.int (73)) 183) from xs_bipush hΓ dX5_next_181 (by decide)) ?_
      refine xw_ic (show xm_Imp g Γ 183 (xi_ic (fun x y => x = y) 212 186) from xs_icmp_eq hΓ dX5_next_183 (by decide)) (fun c => ?_) (fun c => ?_)
      · rw [if_pos c] at e
        exact hB_212 _ _ e hp
      · rw [if_neg c] at e
        refine xw_ald (show xm_Imp g Γ 186 (xi_ald 0 187) from xs_aload_n hΓ dX5_next_186) rfl ?_
        refine xw_ald (show xm_Imp g Γ 187 (xi_ald 0 188) from xs_aload_n hΓ dX5_next_187) rfl ?_
        refine xw_mgi (v := (s.1 22)) (show xm_Imp g Γ 188 (xi_get 4 22 191) from xs_get hG hΓ (ci := 4) (kf := 22) rfl (Nat.le_of_ble_eq_true rfl) q2872 dX5_next_188) (fun _ => rfl) rfl ?_
        obtain ⟨v8, e1, e⟩ := xo_b_s e
        refine xw_mv1 (show xm_Imp g Γ 191 (xi_vir g 4 M_X5_here 1 1 194) from xs_invV hG hΓ k_X5_here rfl (ci := 4) rfl q3181 q3183 qs76 dX5_next_191) rfl (fun Q X hQ => K_X5_here hG hM hB (s.1 22) s e1 hQ) ?_
        refine xw_i2l (show xm_Imp g Γ 194 (xi_i2l 195) from xs_i2l hΓ dX5_next_194) ?_
        refine xw_psh (v := (.long (88))) (show xm_Imp g Γ 195 (xi_psh (.long (88)) 198) from xs_ldc2 hG hΓ q3196 dX5_next_195) ?_
        refine xw_psh (v := (.long (90))) (show xm_Imp g Γ 198 (xi_psh (.long (90)) 201) from xs_ldc2 hG hΓ q3195 dX5_next_198) ?_
        refine xw_sv3 (show xm_Imp g Γ 201 (xi_inv g M_X5_isIn 1 3 204) from xs_invS hG hΓ k_X5_isIn rfl q2996 q2997 dX5_next_201) rfl (fun Q X hQ => K_X5_isIn hG v8.toInt64 88 90 rfl hQ) ?_
        refine xw_if (show xm_Imp g Γ 204 (xi_if (fun x => x = 0) 207 212) from xs_if_ne hΓ dX5_next_204 (by decide)) (fun c => ?_) (fun c => ?_)
        · rw [if_pos c] at e
          refine xw_ald (show xm_Imp g Γ 207 (xi_ald 0 208) from xs_aload_n hΓ dX5_next_207) rfl ?_
          refine xw_psh (v := (.int (5))) (show xm_Imp g Γ 208 (xi_psh (.int (5)) 209) from xs_iconst hΓ dX5_next_208 (by decide)) ?_
          refine xw_mpi (show xm_Imp g Γ 209 (xi_put 4 24 (.int) 212) from xs_put hG hΓ (ci := 4) (kf := 24) rfl (Nat.le_of_ble_eq_true rfl) rfl (by decide +kernel) q2874 dX5_next_209) (fun _ _ => rfl) ⟨rfl, rfl⟩ ?_
          exact hB_212 _ _ e hp
        · rw [if_neg c] at e
          exact hB_212 _ _ e hp
  have hL_83 : ∀  (s : xM_S) (o : xM_S), L_X5_next_83  s = some o → P0 o → xm_W g Γ 83 [some (.ref m), none] [] (xMp h0 m ad s) 0 0 := by
    skip
    refine xl_rule (WS := fun s : xM_S => xm_W g Γ 83 [some (.ref m), none] [] (xMp h0 m ad s) 0 0) ?_
    intro s o e hp
    obtain ⟨P1, hP1, hp⟩ : ∃ P : (xM_S) ⊕ (xM_S) → Prop, (∀ o, P o → xl_P (fun s : xM_S => xm_W g Γ 83 [some (.ref m), none] [] (xMp h0 m ad s) 0 0) P0 o) ∧ P o := ⟨_, fun _ h => h, hp⟩
    unfold D_X5_next_83 at e
    refine xw_ald (show xm_Imp g Γ 83 (xi_ald 0 84) from xs_aload_n hΓ dX5_next_83) rfl ?_
    refine xw_ald (show xm_Imp g Γ 84 (xi_ald 0 85) from xs_aload_n hΓ dX5_next_84) rfl ?_
    refine xw_mgi (v := (s.1 22)) (show xm_Imp g Γ 85 (xi_get 4 22 88) from xs_get hG hΓ (ci := 4) (kf := 22) rfl (Nat.le_of_ble_eq_true rfl) q2872 dX5_next_85) (fun _ => rfl) rfl ?_
    obtain ⟨v9, e1, e⟩ := xo_b_s e
    refine xw_mv1 (show xm_Imp g Γ 88 (xi_vir g 4 M_X5_here 1 1 91) from xs_invV hG hΓ k_X5_here rfl (ci := 4) rfl q3181 q3183 qs76 dX5_next_88) rfl (fun Q X hQ => K_X5_here hG hM hB (s.1 22) s e1 hQ) ?_
    refine xw_i2l (show xm_Imp g Γ 91 (xi_i2l 92) from xs_i2l hΓ dX5_next_91) ?_
    refine xw_psh (v := (.long (97))) (show xm_Imp g Γ 92 (xi_psh (.long (97)) 95) from xs_ldc2 hG hΓ q3185 dX5_next_92) ?_
    refine xw_psh (v := (.long (122))) (show xm_Imp g Γ 95 (xi_psh (.long (122)) 98) from xs_ldc2 hG hΓ q3186 dX5_next_95) ?_
    refine xw_sv3 (show xm_Imp g Γ 98 (xi_inv g M_X5_isIn 1 3 101) from xs_invS hG hΓ k_X5_isIn rfl q2996 q2997 dX5_next_98) rfl (fun Q X hQ => K_X5_isIn hG v9.toInt64 97 122 rfl hQ) ?_
    refine xw_if (show xm_Imp g Γ 101 (xi_if (fun x => x = 0) 117 104) from xs_if_eq hΓ dX5_next_101 (by decide)) (fun c => ?_) (fun c => ?_)
    · rw [if_pos c] at e
      obtain ⟨_, e, hp⟩ := xl_o_s e (hP1 _ hp)
      refine xw_ald (show xm_Imp g Γ 117 (xi_ald 0 118) from xs_aload_n hΓ dX5_next_117) rfl ?_
      refine xw_psh (v := (.int (1))) (show xm_Imp g Γ 118 (xi_psh (.int (1)) 119) from xs_iconst hΓ dX5_next_118 (by decide)) ?_
      refine xw_mpi (show xm_Imp g Γ 119 (xi_put 4 24 (.int) 122) from xs_put hG hΓ (ci := 4) (kf := 24) rfl (Nat.le_of_ble_eq_true rfl) rfl (by decide +kernel) q2874 dX5_next_119) (fun _ _ => rfl) ⟨rfl, rfl⟩ ?_
      refine xw_ald (show xm_Imp g Γ 122 (xi_ald 0 123) from xs_aload_n hΓ dX5_next_122) rfl ?_
      refine xw_ald (show xm_Imp g Γ 123 (xi_ald 0 124) from xs_aload_n hΓ dX5_next_123) rfl ?_
      obtain ⟨v10, e1, e⟩ := xo_b_s e
      refine xw_mv0 (show xm_Imp g Γ 124 (xi_vir g 4 M_X5_wordHere 12 0 127) from xs_invV hG hΓ k_X5_wordHere rfl (ci := 4) rfl q3187 q3189 qs77 dX5_next_124) rfl (fun Q X hQ => K_X5_wordHere hG hM hB (xM_f s 24 1) e1 hQ) ?_
      refine xw_mpi (show xm_Imp g Γ 127 (xi_put 4 25 (.int) 130) from xs_put hG hΓ (ci := 4) (kf := 25) rfl (Nat.le_of_ble_eq_true rfl) rfl (by decide +kernel) q2875 dX5_next_127) (fun _ _ => rfl) ⟨rfl, rfl⟩ ?_
      refine xw_goto (show xm_Imp g Γ 130 (xi_goto 359) from xs_goto hΓ dX5_next_130 (by decide)) ?_
      exact xw_vret (show xm_Imp g Γ 359 (xi_vret _) from xs_return hΓ rfl dX5_next_359) (hP0 _ (xl_fin e hp))
    · rw [if_neg c] at e
      refine xw_ald (show xm_Imp g Γ 104 (xi_ald 0 105) from xs_aload_n hΓ dX5_next_104) rfl ?_
      refine xw_ald (show xm_Imp g Γ 105 (xi_ald 0 106) from xs_aload_n hΓ dX5_next_105) rfl ?_
      refine xw_mgi (v := (s.1 22)) (show xm_Imp g Γ 106 (xi_get 4 22 109) from xs_get hG hΓ (ci := 4) (kf := 22) rfl (Nat.le_of_ble_eq_true rfl) q2872 dX5_next_106) (fun _ => rfl) rfl ?_
      refine xw_psh (v := (.int (1))) (show xm_Imp g Γ 109 (xi_psh (.int (1)) 110) from xs_iconst hΓ dX5_next_109 (by decide)) ?_
      refine xw_ii (show xm_Imp g Γ 110 (xi_ii (fun x y => x + y) 111) from xs_iadd hΓ dX5_next_110) ?_
      refine xw_mpi (show xm_Imp g Γ 111 (xi_put 4 22 (.int) 114) from xs_put hG hΓ (ci := 4) (kf := 22) rfl (Nat.le_of_ble_eq_true rfl) rfl (by decide +kernel) q2872 dX5_next_111) (fun _ _ => rfl) ⟨rfl, rfl⟩ ?_
      refine xw_goto (show xm_Imp g Γ 114 (xi_goto 83) from xs_goto hΓ dX5_next_114 (by decide)) ?_
      have hq := xl_P_inl (hP1 _ (xl_fin e hp)); exact hq
  have hL_0 : ∀  (s : xM_S) (o : xM_S), L_X5_next_0  s = some o → P0 o → xm_W g Γ 0 [some (.ref m), none] [] (xMp h0 m ad s) 0 0 := by
    skip
    refine xl_rule (WS := fun s : xM_S => xm_W g Γ 0 [some (.ref m), none] [] (xMp h0 m ad s) 0 0) ?_
    intro s o e hp
    obtain ⟨P1, hP1, hp⟩ : ∃ P : (xM_S) ⊕ (xM_S) → Prop, (∀ o, P o → xl_P (fun s : xM_S => xm_W g Γ 0 [some (.ref m), none] [] (xMp h0 m ad s) 0 0) P0 o) ∧ P o := ⟨_, fun _ h => h, hp⟩
    have hB_26 : ∀ (σ : xM_S) (o : (xM_S) ⊕ (xM_S)), B_X5_next_26 σ = some o → P1 o → xm_W g Γ 26 [some (.ref m), none] [] (xMp h0 m ad σ) 0 0 := by
      intro σ o e hp
      unfold B_X5_next_26 at e
      refine xw_ald (show xm_Imp g Γ 26 (xi_ald 0 27) from xs_aload_n hΓ dX5_next_26) rfl ?_
      refine xw_ald (show xm_Imp g Γ 27 (xi_ald 0 28) from xs_aload_n hΓ dX5_next_27) rfl ?_
      refine xw_mgi (v := (σ.1 22)) (show xm_Imp g Γ 28 (xi_get 4 22 31) from xs_get hG hΓ (ci := 4) (kf := 22) rfl (Nat.le_of_ble_eq_true rfl) q2872 dX5_next_28) (fun _ => rfl) rfl ?_
      refine xw_psh (v := (.int (1))) (show xm_Imp g Γ 31 (xi_psh (.int (1)) 32) from xs_iconst hΓ dX5_next_31 (by decide)) ?_
      refine xw_ii (show xm_Imp g Γ 32 (xi_ii (fun x y => x + y) 33) from xs_iadd hΓ dX5_next_32) ?_
      refine xw_mpi (show xm_Imp g Γ 33 (xi_put 4 22 (.int) 36) from xs_put hG hΓ (ci := 4) (kf := 22) rfl (Nat.le_of_ble_eq_true rfl) rfl (by decide +kernel) q2872 dX5_next_33) (fun _ _ => rfl) ⟨rfl, rfl⟩ ?_
      refine xw_goto (show xm_Imp g Γ 36 (xi_goto 0) from xs_goto hΓ dX5_next_36 (by decide)) ?_
      have hq := xl_P_inl (hP1 _ (xl_fin e hp)); exact hq
    unfold D_X5_next_0 at e
    refine xw_ald (show xm_Imp g Γ 0 (xi_ald 0 1) from xs_aload_n hΓ dX5_next_0) rfl ?_
    refine xw_ald (show xm_Imp g Γ 1 (xi_ald 0 2) from xs_aload_n hΓ dX5_next_1) rfl ?_
    refine xw_mgi (v := (s.1 22)) (show xm_Imp g Γ 2 (xi_get 4 22 5) from xs_get hG hΓ (ci := 4) (kf := 22) rfl (Nat.le_of_ble_eq_true rfl) q2872 dX5_next_2) (fun _ => rfl) rfl ?_
    obtain ⟨v1, e1, e⟩ := xo_b_s e
    refine xw_mv1 (show xm_Imp g Γ 5 (xi_vir g 4 M_X5_here 1 1 8) from xs_invV hG hΓ k_X5_here rfl (ci := 4) rfl q3181 q3183 qs76 dX5_next_5) rfl (fun Q X hQ => K_X5_here hG hM hB (s.1 22) s e1 hQ) ?_
    refine xw_psh (v := (.int (32))) (show xm_Imp g Γ 8 (xi_psh (.int (32)) 10) from xs_bipush hΓ dX5_next_8 (by decide)) ?_
    refine xw_ic (show xm_Imp g Γ 10 (xi_ic (fun x y => x = y) 26 13) from xs_icmp_eq hΓ dX5_next_10 (by decide)) (fun c => ?_) (fun c => ?_)
    · rw [if_pos c] at e
      exact hB_26 _ _ e hp
    · rw [if_neg c] at e
      refine xw_ald (show xm_Imp g Γ 13 (xi_ald 0 14) from xs_aload_n hΓ dX5_next_13) rfl ?_
      refine xw_ald (show xm_Imp g Γ 14 (xi_ald 0 15) from xs_aload_n hΓ dX5_next_14) rfl ?_
      refine xw_mgi (v := (s.1 22)) (show xm_Imp g Γ 15 (xi_get 4 22 18) from xs_get hG hΓ (ci := 4) (kf := 22) rfl (Nat.le_of_ble_eq_true rfl) q2872 dX5_next_15) (fun _ => rfl) rfl ?_
      obtain ⟨v2, e1, e⟩ := xo_b_s e
      refine xw_mv1 (show xm_Imp g Γ 18 (xi_vir g 4 M_X5_here 1 1 21) from xs_invV hG hΓ k_X5_here rfl (ci := 4) rfl q3181 q3183 qs76 dX5_next_18) rfl (fun Q X hQ => K_X5_here hG hM hB (s.1 22) s e1 hQ) ?_
      refine xw_psh (v := (.int (10))) (show xm_Imp g Γ 21 (xi_psh (.int (10)) 23) from xs_bipush hΓ dX5_next_21 (by decide)) ?_
      refine xw_ic (show xm_Imp g Γ 23 (xi_ic (fun x y => x = y) 26 39) from xs_icmp_ne hΓ dX5_next_23 (by decide)) (fun c => ?_) (fun c => ?_)
      · rw [if_pos c] at e
        exact hB_26 _ _ e hp
      · rw [if_neg c] at e
        obtain ⟨_, e, hp⟩ := xl_o_s e (hP1 _ hp)
        refine xw_ald (show xm_Imp g Γ 39 (xi_ald 0 40) from xs_aload_n hΓ dX5_next_39) rfl ?_
        refine xw_ald (show xm_Imp g Γ 40 (xi_ald 0 41) from xs_aload_n hΓ dX5_next_40) rfl ?_
        refine xw_mgi (v := (s.1 22)) (show xm_Imp g Γ 41 (xi_get 4 22 44) from xs_get hG hΓ (ci := 4) (kf := 22) rfl (Nat.le_of_ble_eq_true rfl) q2872 dX5_next_41) (fun _ => rfl) rfl ?_
        refine xw_mpi (show xm_Imp g Γ 44 (xi_put 4 23 (.int) 47) from xs_put hG hΓ (ci := 4) (kf := 23) rfl (Nat.le_of_ble_eq_true rfl) rfl (by decide +kernel) q2873 dX5_next_44) (fun _ _ => rfl) ⟨rfl, rfl⟩ ?_
        refine xw_ald (show xm_Imp g Γ 47 (xi_ald 0 48) from xs_aload_n hΓ dX5_next_47) rfl ?_
        refine xw_ald (show xm_Imp g Γ 48 (xi_ald 0 49) from xs_aload_n hΓ dX5_next_48) rfl ?_
        refine xw_mgi (v := (s.1 22)) (show xm_Imp g Γ 49 (xi_get 4 22 52) from xs_get hG hΓ (ci := 4) (kf := 22) rfl (Nat.le_of_ble_eq_true rfl) q2872 dX5_next_49) (fun _ => rfl) rfl ?_
        obtain ⟨v3, e1, e⟩ := xo_b_s e
        refine xw_mv1 (show xm_Imp g Γ 52 (xi_vir g 4 M_X5_here 1 1 55) from xs_invV hG hΓ k_X5_here rfl (ci := 4) rfl q3181 q3183 qs76 dX5_next_52) rfl (fun Q X hQ => K_X5_here hG hM hB (s.1 22) (xM_f s 23 (s.1 22)) e1 hQ) ?_
        refine xw_ist (ls' := [some (.ref m), some (.int v3)]) (show xm_Imp g Γ 55 (xi_ist 1 56) from xs_istore_n hΓ dX5_next_55 (Nat.le_of_ble_eq_true rfl)) rfl ?_
        refine xw_ild (show xm_Imp g Γ 56 (xi_ild 1 57) from xs_iload_n hΓ dX5_next_56) rfl ?_
        refine xw_psh (v := (.int (-1))) (show xm_Imp g Γ 57 (xi_psh (.int (-1)) 58) from xs_iconst hΓ dX5_next_57 (by decide)) ?_
        refine xw_ic (show xm_Imp g Γ 58 (xi_ic (fun x y => x = y) 61 69) from xs_icmp_ne hΓ dX5_next_58 (by decide)) (fun c => ?_) (fun c => ?_)
        · rw [if_pos c] at e
          refine xw_ald (show xm_Imp g Γ 61 (xi_ald 0 62) from xs_aload_n hΓ dX5_next_61) rfl ?_
          refine xw_psh (v := (.int (0))) (show xm_Imp g Γ 62 (xi_psh (.int (0)) 63) from xs_iconst hΓ dX5_next_62 (by decide)) ?_
          refine xw_mpi (show xm_Imp g Γ 63 (xi_put 4 24 (.int) 66) from xs_put hG hΓ (ci := 4) (kf := 24) rfl (Nat.le_of_ble_eq_true rfl) rfl (by decide +kernel) q2874 dX5_next_63) (fun _ _ => rfl) ⟨rfl, rfl⟩ ?_
          refine xw_goto (show xm_Imp g Γ 66 (xi_goto 359) from xs_goto hΓ dX5_next_66 (by decide)) ?_
          exact xw_vret (show xm_Imp g Γ 359 (xi_vret _) from xs_return hΓ rfl dX5_next_359) (hP0 _ (xl_fin e hp))
        · rw [if_neg c] at e
          refine xw_ild (show xm_Imp g Γ 69 (xi_ild 1 70) from xs_iload_n hΓ dX5_next_69) rfl ?_
          refine xw_i2l (show xm_Imp g Γ 70 (xi_i2l 71) from xs_i2l hΓ dX5_next_70) ?_
          refine xw_psh (v := (.long (97))) (show xm_Imp g Γ 71 (xi_psh (.long (97)) 74) from xs_ldc2 hG hΓ q3185 dX5_next_71) ?_
          refine xw_psh (v := (.long (122))) (show xm_Imp g Γ 74 (xi_psh (.long (122)) 77) from xs_ldc2 hG hΓ q3186 dX5_next_74) ?_
          refine xw_sv3 (show xm_Imp g Γ 77 (xi_inv g M_X5_isIn 1 3 80) from xs_invS hG hΓ k_X5_isIn rfl q2996 q2997 dX5_next_77) rfl (fun Q X hQ => K_X5_isIn hG v3.toInt64 97 122 rfl hQ) ?_
          refine xw_if (show xm_Imp g Γ 80 (xi_if (fun x => x = 0) 133 83) from xs_if_eq hΓ dX5_next_80 (by decide)) (fun c => ?_) (fun c => ?_)
          · rw [if_pos c] at e
            refine xw_ild (show xm_Imp g Γ 133 (xi_ild 1 134) from xs_iload_n hΓ dX5_next_133) rfl ?_
            refine xw_i2l (show xm_Imp g Γ 134 (xi_i2l 135) from xs_i2l hΓ dX5_next_134) ?_
            refine xw_psh (v := (.long (65))) (show xm_Imp g Γ 135 (xi_psh (.long (65)) 138) from xs_ldc2 hG hΓ q3194 dX5_next_135) ?_
            refine xw_psh (v := (.long (90))) (show xm_Imp g Γ 138 (xi_psh (.long (90)) 141) from xs_ldc2 hG hΓ q3195 dX5_next_138) ?_
            refine xw_sv3 (show xm_Imp g Γ 141 (xi_inv g M_X5_isIn 1 3 144) from xs_invS hG hΓ k_X5_isIn rfl q2996 q2997 dX5_next_141) rfl (fun Q X hQ => K_X5_isIn hG v3.toInt64 65 90 rfl hQ) ?_
            refine xw_if (show xm_Imp g Γ 144 (xi_if (fun x => x = 0) 225 147) from xs_if_eq hΓ dX5_next_144 (by decide)) (fun c => ?_) (fun c => ?_)
            · rw [if_pos c] at e
              refine xw_ild (show xm_Imp g Γ 225 (xi_ild 1 226) from xs_iload_n hΓ dX5_next_225) rfl ?_
              refine xw_i2l (show xm_Imp g Γ 226 (xi_i2l 227) from xs_i2l hΓ dX5_next_226) ?_
              refine xw_psh (v := (.long (48))) (show xm_Imp g Γ 227 (xi_psh (.long (48)) 230) from xs_ldc2 hG hΓ q3197 dX5_next_227) ?_
              refine xw_psh (v := (.long (57))) (show xm_Imp g Γ 230 (xi_psh (.long (57)) 233) from xs_ldc2 hG hΓ q3198 dX5_next_230) ?_
              refine xw_sv3 (show xm_Imp g Γ 233 (xi_inv g M_X5_isIn 1 3 236) from xs_invS hG hΓ k_X5_isIn rfl q2996 q2997 dX5_next_233) rfl (fun Q X hQ => K_X5_isIn hG v3.toInt64 48 57 rfl hQ) ?_
              refine xw_if (show xm_Imp g Γ 236 (xi_if (fun x => x = 0) 339 239) from xs_if_eq hΓ dX5_next_236 (by decide)) (fun c => ?_) (fun c => ?_)
              · rw [if_pos c] at e
                refine xw_ald (show xm_Imp g Γ 339 (xi_ald 0 340) from xs_aload_n hΓ dX5_next_339) rfl ?_
                refine xw_ald (show xm_Imp g Γ 340 (xi_ald 0 341) from xs_aload_n hΓ dX5_next_340) rfl ?_
                refine xw_mgi (v := (s.1 22)) (show xm_Imp g Γ 341 (xi_get 4 22 344) from xs_get hG hΓ (ci := 4) (kf := 22) rfl (Nat.le_of_ble_eq_true rfl) q2872 dX5_next_341) (fun _ => rfl) rfl ?_
                refine xw_psh (v := (.int (1))) (show xm_Imp g Γ 344 (xi_psh (.int (1)) 345) from xs_iconst hΓ dX5_next_344 (by decide)) ?_
                refine xw_ii (show xm_Imp g Γ 345 (xi_ii (fun x y => x + y) 346) from xs_iadd hΓ dX5_next_345) ?_
                refine xw_mpi (show xm_Imp g Γ 346 (xi_put 4 22 (.int) 349) from xs_put hG hΓ (ci := 4) (kf := 22) rfl (Nat.le_of_ble_eq_true rfl) rfl (by decide +kernel) q2872 dX5_next_346) (fun _ _ => rfl) ⟨rfl, rfl⟩ ?_
                refine xw_ald (show xm_Imp g Γ 349 (xi_ald 0 350) from xs_aload_n hΓ dX5_next_349) rfl ?_
                refine xw_psh (v := (.int (4))) (show xm_Imp g Γ 350 (xi_psh (.int (4)) 351) from xs_iconst hΓ dX5_next_350 (by decide)) ?_
                refine xw_mpi (show xm_Imp g Γ 351 (xi_put 4 24 (.int) 354) from xs_put hG hΓ (ci := 4) (kf := 24) rfl (Nat.le_of_ble_eq_true rfl) rfl (by decide +kernel) q2874 dX5_next_351) (fun _ _ => rfl) ⟨rfl, rfl⟩ ?_
                refine xw_ald (show xm_Imp g Γ 354 (xi_ald 0 355) from xs_aload_n hΓ dX5_next_354) rfl ?_
                refine xw_ild (show xm_Imp g Γ 355 (xi_ild 1 356) from xs_iload_n hΓ dX5_next_355) rfl ?_
                refine xw_mpi (show xm_Imp g Γ 356 (xi_put 4 25 (.int) 359) from xs_put hG hΓ (ci := 4) (kf := 25) rfl (Nat.le_of_ble_eq_true rfl) rfl (by decide +kernel) q2875 dX5_next_356) (fun _ _ => rfl) ⟨rfl, rfl⟩ ?_
                exact xw_vret (show xm_Imp g Γ 359 (xi_vret _) from xs_return hΓ rfl dX5_next_359) (hP0 _ (xl_fin e hp))
              · rw [if_neg c] at e
                refine xw_ald (show xm_Imp g Γ 239 (xi_ald 0 240) from xs_aload_n hΓ dX5_next_239) rfl ?_
                refine xw_psh (v := (.int (0))) (show xm_Imp g Γ 240 (xi_psh (.int (0)) 241) from xs_iconst hΓ dX5_next_240 (by decide)) ?_
                refine xw_mpi (show xm_Imp g Γ 241 (xi_put 4 26 (.int) 244) from xs_put hG hΓ (ci := 4) (kf := 26) rfl (Nat.le_of_ble_eq_true rfl) rfl (by decide +kernel) q2876 dX5_next_241) (fun _ _ => rfl) ⟨rfl, rfl⟩ ?_
                exact xm_lx (hL_244 _ _ e hp) (And.intro rfl (trivial))
            · rw [if_neg c] at e
              refine xw_ald (show xm_Imp g Γ 147 (xi_ald 0 148) from xs_aload_n hΓ dX5_next_147) rfl ?_
              refine xw_psh (v := (.int (2))) (show xm_Imp g Γ 148 (xi_psh (.int (2)) 149) from xs_iconst hΓ dX5_next_148 (by decide)) ?_
              refine xw_mpi (show xm_Imp g Γ 149 (xi_put 4 24 (.int) 152) from xs_put hG hΓ (ci := 4) (kf := 24) rfl (Nat.le_of_ble_eq_true rfl) rfl (by decide +kernel) q2874 dX5_next_149) (fun _ _ => rfl) ⟨rfl, rfl⟩ ?_
              exact xm_lx (hL_152 _ _ e hp) (And.intro rfl (trivial))
          · rw [if_neg c] at e
            exact xm_lx (hL_83 _ _ e hp) (And.intro rfl (trivial))
  unfold F_X5_next at e
  exact hL_0 _ _ e hp
def F_X5_fine (σ : xM_S) : Int32 :=
 (if (σ.1 27) = 0 then
 1 else
 0)
set_option maxHeartbeats 4000000 in
theorem K_X5_fine {g : xm_G} (hG : xm_Gw g) {h0 : xm_H} {m : Nat} {ad : Nat → Nat} (hM : xM_ok h0 m ad) (hB : xk_B g h0)  (σ : xM_S) {o : Int32} (e : F_X5_fine σ = o) {Q : xm_P} {X : xm_X} (hQ : Q (some (.int o)) (xMp h0 m ad σ)) : xm_Run g M_X5_fine 1 [.ref m] (xMp h0 m ad σ) 0 0 Q X := by
  refine xm_Run.of pn_StringTableauModel (Nat.le_of_ble_eq_true rfl) (fun Γ hΓ => ?_)
  obtain ⟨P0, hP0, hp⟩ : ∃ P : Int32 → Prop, (∀ o, P o → Q (some (.int o)) (xMp h0 m ad σ)) ∧ P o := ⟨fun o => Q (some (.int o)) (xMp h0 m ad σ), fun _ h => h, hQ⟩
  clear hQ
  show xm_W g Γ 0 [some (.ref m)] [] (xMp h0 m ad σ) 0 0
  unfold F_X5_fine at e
  refine xw_ald (show xm_Imp g Γ 0 (xi_ald 0 1) from xs_aload_n hΓ dX5_fine_0) rfl ?_
  refine xw_mgi (v := (σ.1 27)) (show xm_Imp g Γ 1 (xi_get 4 27 4) from xs_get hG hΓ (ci := 4) (kf := 27) rfl (Nat.le_of_ble_eq_true rfl) q2877 dX5_fine_1) (fun _ => rfl) rfl ?_
  refine xw_if (show xm_Imp g Γ 4 (xi_if (fun x => x = 0) 7 11) from xs_if_ne hΓ dX5_fine_4 (by decide)) (fun c => ?_) (fun c => ?_)
  · rw [if_pos c] at e
    refine xw_psh (v := (.int (1))) (show xm_Imp g Γ 7 (xi_psh (.int (1)) 8) from xs_iconst hΓ dX5_fine_7 (by decide)) ?_
    refine xw_goto (show xm_Imp g Γ 8 (xi_goto 12) from xs_goto hΓ dX5_fine_8 (by decide)) ?_
    exact xw_iret (show xm_Imp g Γ 12 (xi_iret .boolean _) from xs_ireturn hΓ rfl dX5_fine_12) rfl (hP0 _ (xl_finV e hp))
  · rw [if_neg c] at e
    refine xw_psh (v := (.int (0))) (show xm_Imp g Γ 11 (xi_psh (.int (0)) 12) from xs_iconst hΓ dX5_fine_11 (by decide)) ?_
    exact xw_iret (show xm_Imp g Γ 12 (xi_iret .boolean _) from xs_ireturn hΓ rfl dX5_fine_12) rfl (hP0 _ (xl_finV e hp))
theorem b_X5_fine (σ : xM_S) : narrow .boolean (.int (F_X5_fine σ)) = .int (F_X5_fine σ) := by
  unfold F_X5_fine
  (repeat' split) <;> first | with_reducible exact xb_n0 | with_reducible exact xb_n1
def B_X5_isWord_27 (σ : xM_S) : Int32 :=
 0
def F_X5_isWord (p1 : Int32) (σ : xM_S) : Int32 :=
 (if (F_X5_fine σ) = 0 then
 B_X5_isWord_27 σ else
 (if (σ.1 24) = 1 then
 (if (σ.1 25) = p1 then
 1 else
 B_X5_isWord_27 σ) else
 B_X5_isWord_27 σ))
set_option maxHeartbeats 4000000 in
theorem K_X5_isWord {g : xm_G} (hG : xm_Gw g) {h0 : xm_H} {m : Nat} {ad : Nat → Nat} (hM : xM_ok h0 m ad) (hB : xk_B g h0) (p1 : Int32) (σ : xM_S) {o : Int32} (e : F_X5_isWord p1 σ = o) {Q : xm_P} {X : xm_X} (hQ : Q (some (.int o)) (xMp h0 m ad σ)) : xm_Run g M_X5_isWord 2 [.ref m, .int p1] (xMp h0 m ad σ) 0 0 Q X := by
  refine xm_Run.of pn_StringTableauModel (Nat.le_of_ble_eq_true rfl) (fun Γ hΓ => ?_)
  obtain ⟨P0, hP0, hp⟩ : ∃ P : Int32 → Prop, (∀ o, P o → Q (some (.int o)) (xMp h0 m ad σ)) ∧ P o := ⟨fun o => Q (some (.int o)) (xMp h0 m ad σ), fun _ h => h, hQ⟩
  clear hQ
  show xm_W g Γ 0 [some (.ref m), some (.int p1)] [] (xMp h0 m ad σ) 0 0
  have hB_27 : ∀  (o : Int32), B_X5_isWord_27 σ = o → P0 o → xm_W g Γ 27 [none, none] [] (xMp h0 m ad σ) 0 0 := by
    intro  o e hp
    unfold B_X5_isWord_27 at e
    refine xw_psh (v := (.int (0))) (show xm_Imp g Γ 27 (xi_psh (.int (0)) 28) from xs_iconst hΓ dX5_isWord_27 (by decide)) ?_
    exact xw_iret (show xm_Imp g Γ 28 (xi_iret .boolean _) from xs_ireturn hΓ rfl dX5_isWord_28) rfl (hP0 _ (xl_finV e hp))
  unfold F_X5_isWord at e
  refine xw_ald (show xm_Imp g Γ 0 (xi_ald 0 1) from xs_aload_n hΓ dX5_isWord_0) rfl ?_
  refine xw_mv0 (show xm_Imp g Γ 1 (xi_vir g 4 M_X5_fine 1 0 4) from xs_invV hG hΓ k_X5_fine rfl (ci := 4) rfl q3203 q3205 qs79 dX5_isWord_1) rfl (fun Q X hQ => K_X5_fine hG hM hB σ rfl hQ) ?_
  refine xw_if (show xm_Imp g Γ 4 (xi_if (fun x => x = 0) 27 7) from xs_if_eq hΓ dX5_isWord_4 (by decide)) (fun c => ?_) (fun c => ?_)
  · rw [if_pos c] at e
    exact xm_lx (hB_27 _ e hp) (trivial)
  · rw [if_neg c] at e
    refine xw_ald (show xm_Imp g Γ 7 (xi_ald 0 8) from xs_aload_n hΓ dX5_isWord_7) rfl ?_
    refine xw_mgi (v := (σ.1 24)) (show xm_Imp g Γ 8 (xi_get 4 24 11) from xs_get hG hΓ (ci := 4) (kf := 24) rfl (Nat.le_of_ble_eq_true rfl) q2874 dX5_isWord_8) (fun _ => rfl) rfl ?_
    refine xw_psh (v := (.int (1))) (show xm_Imp g Γ 11 (xi_psh (.int (1)) 12) from xs_iconst hΓ dX5_isWord_11 (by decide)) ?_
    refine xw_ic (show xm_Imp g Γ 12 (xi_ic (fun x y => x = y) 15 27) from xs_icmp_ne hΓ dX5_isWord_12 (by decide)) (fun c => ?_) (fun c => ?_)
    · rw [if_pos c] at e
      refine xw_ald (show xm_Imp g Γ 15 (xi_ald 0 16) from xs_aload_n hΓ dX5_isWord_15) rfl ?_
      refine xw_mgi (v := (σ.1 25)) (show xm_Imp g Γ 16 (xi_get 4 25 19) from xs_get hG hΓ (ci := 4) (kf := 25) rfl (Nat.le_of_ble_eq_true rfl) q2875 dX5_isWord_16) (fun _ => rfl) rfl ?_
      refine xw_ild (show xm_Imp g Γ 19 (xi_ild 1 20) from xs_iload_n hΓ dX5_isWord_19) rfl ?_
      refine xw_ic (show xm_Imp g Γ 20 (xi_ic (fun x y => x = y) 23 27) from xs_icmp_ne hΓ dX5_isWord_20 (by decide)) (fun c => ?_) (fun c => ?_)
      · rw [if_pos c] at e
        refine xw_psh (v := (.int (1))) (show xm_Imp g Γ 23 (xi_psh (.int (1)) 24) from xs_iconst hΓ dX5_isWord_23 (by decide)) ?_
        refine xw_goto (show xm_Imp g Γ 24 (xi_goto 28) from xs_goto hΓ dX5_isWord_24 (by decide)) ?_
        exact xw_iret (show xm_Imp g Γ 28 (xi_iret .boolean _) from xs_ireturn hΓ rfl dX5_isWord_28) rfl (hP0 _ (xl_finV e hp))
      · rw [if_neg c] at e
        exact xm_lx (hB_27 _ e hp) (trivial)
    · rw [if_neg c] at e
      exact xm_lx (hB_27 _ e hp) (trivial)
theorem b_X5_isWord (p1 : Int32) (σ : xM_S) : narrow .boolean (.int (F_X5_isWord p1 σ)) = .int (F_X5_isWord p1 σ) := by
  unfold F_X5_isWord B_X5_isWord_27
  (repeat' split) <;> first | with_reducible exact xb_n0 | with_reducible exact xb_n1 | with_reducible exact b_X5_fine _
def F_X5_needs (p1 : Int32) (p2 : Int32) (σ : xM_S) : xM_S :=
 (if (σ.1 27) = 0 then
 (if p1 = 0 then
 (xM_f (xM_f σ 27 p2) 28 (σ.1 23)) else
 σ) else
 σ)
set_option maxHeartbeats 4000000 in
theorem K_X5_needs {g : xm_G} (hG : xm_Gw g) {h0 : xm_H} {m : Nat} {ad : Nat → Nat} (hM : xM_ok h0 m ad) (hB : xk_B g h0) (p1 : Int32) (p2 : Int32) (σ : xM_S) {o : xM_S} (e : F_X5_needs p1 p2 σ = o) {Q : xm_P} {X : xm_X} (hQ : Q none (xMp h0 m ad o)) : xm_Run g M_X5_needs 1 [.ref m, .int p1, .int p2] (xMp h0 m ad σ) 0 0 Q X := by
  refine xm_Run.of pn_StringTableauModel (Nat.le_of_ble_eq_true rfl) (fun Γ hΓ => ?_)
  obtain ⟨P0, hP0, hp⟩ : ∃ P : xM_S → Prop, (∀ o, P o → Q none (xMp h0 m ad o)) ∧ P o := ⟨fun o => Q none (xMp h0 m ad o), fun _ h => h, hQ⟩
  clear hQ
  show xm_W g Γ 0 [some (.ref m), some (.int p1), some (.int p2)] [] (xMp h0 m ad σ) 0 0
  unfold F_X5_needs at e
  refine xw_ald (show xm_Imp g Γ 0 (xi_ald 0 1) from xs_aload_n hΓ dX5_needs_0) rfl ?_
  refine xw_mgi (v := (σ.1 27)) (show xm_Imp g Γ 1 (xi_get 4 27 4) from xs_get hG hΓ (ci := 4) (kf := 27) rfl (Nat.le_of_ble_eq_true rfl) q2877 dX5_needs_1) (fun _ => rfl) rfl ?_
  refine xw_if (show xm_Imp g Γ 4 (xi_if (fun x => x = 0) 7 11) from xs_if_ne hΓ dX5_needs_4 (by decide)) (fun c => ?_) (fun c => ?_)
  · rw [if_pos c] at e
    refine xw_ild (show xm_Imp g Γ 7 (xi_ild 1 8) from xs_iload_n hΓ dX5_needs_7) rfl ?_
    refine xw_if (show xm_Imp g Γ 8 (xi_if (fun x => x = 0) 12 11) from xs_if_eq hΓ dX5_needs_8 (by decide)) (fun c => ?_) (fun c => ?_)
    · rw [if_pos c] at e
      refine xw_ald (show xm_Imp g Γ 12 (xi_ald 0 13) from xs_aload_n hΓ dX5_needs_12) rfl ?_
      refine xw_ild (show xm_Imp g Γ 13 (xi_ild 2 14) from xs_iload_n hΓ dX5_needs_13) rfl ?_
      refine xw_mpi (show xm_Imp g Γ 14 (xi_put 4 27 (.int) 17) from xs_put hG hΓ (ci := 4) (kf := 27) rfl (Nat.le_of_ble_eq_true rfl) rfl (by decide +kernel) q2877 dX5_needs_14) (fun _ _ => rfl) ⟨rfl, rfl⟩ ?_
      refine xw_ald (show xm_Imp g Γ 17 (xi_ald 0 18) from xs_aload_n hΓ dX5_needs_17) rfl ?_
      refine xw_ald (show xm_Imp g Γ 18 (xi_ald 0 19) from xs_aload_n hΓ dX5_needs_18) rfl ?_
      refine xw_mgi (v := (σ.1 23)) (show xm_Imp g Γ 19 (xi_get 4 23 22) from xs_get hG hΓ (ci := 4) (kf := 23) rfl (Nat.le_of_ble_eq_true rfl) q2873 dX5_needs_19) (fun _ => rfl) rfl ?_
      refine xw_mpi (show xm_Imp g Γ 22 (xi_put 4 28 (.int) 25) from xs_put hG hΓ (ci := 4) (kf := 28) rfl (Nat.le_of_ble_eq_true rfl) rfl (by decide +kernel) q2878 dX5_needs_22) (fun _ _ => rfl) ⟨rfl, rfl⟩ ?_
      exact xw_vret (show xm_Imp g Γ 25 (xi_vret _) from xs_return hΓ rfl dX5_needs_25) (hP0 _ (xl_finV e hp))
    · rw [if_neg c] at e
      exact xw_vret (show xm_Imp g Γ 11 (xi_vret _) from xs_return hΓ rfl dX5_needs_11) (hP0 _ (xl_finV e hp))
  · rw [if_neg c] at e
    exact xw_vret (show xm_Imp g Γ 11 (xi_vret _) from xs_return hΓ rfl dX5_needs_11) (hP0 _ (xl_finV e hp))
noncomputable def F_X5_goOn (σ : xM_S) : Option (xM_S) :=
 (if (F_X5_fine σ) = 0 then
 some σ else
 xo_b (F_X5_next σ) (fun v1 =>
 some v1))
set_option maxHeartbeats 4000000 in
theorem K_X5_goOn {g : xm_G} (hG : xm_Gw g) {h0 : xm_H} {m : Nat} {ad : Nat → Nat} (hM : xM_ok h0 m ad) (hB : xk_B g h0)  (σ : xM_S) {o : xM_S} (e : F_X5_goOn σ = some o) {Q : xm_P} {X : xm_X} (hQ : Q none (xMp h0 m ad o)) : xm_Run g M_X5_goOn 14 [.ref m] (xMp h0 m ad σ) 0 0 Q X := by
  refine xm_Run.of pn_StringTableauModel (Nat.le_of_ble_eq_true rfl) (fun Γ hΓ => ?_)
  obtain ⟨P0, hP0, hp⟩ : ∃ P : xM_S → Prop, (∀ o, P o → Q none (xMp h0 m ad o)) ∧ P o := ⟨fun o => Q none (xMp h0 m ad o), fun _ h => h, hQ⟩
  clear hQ
  show xm_W g Γ 0 [some (.ref m)] [] (xMp h0 m ad σ) 0 0
  unfold F_X5_goOn at e
  refine xw_ald (show xm_Imp g Γ 0 (xi_ald 0 1) from xs_aload_n hΓ dX5_goOn_0) rfl ?_
  refine xw_mv0 (show xm_Imp g Γ 1 (xi_vir g 4 M_X5_fine 1 0 4) from xs_invV hG hΓ k_X5_fine rfl (ci := 4) rfl q3203 q3205 qs79 dX5_goOn_1) rfl (fun Q X hQ => K_X5_fine hG hM hB σ rfl hQ) ?_
  refine xw_if (show xm_Imp g Γ 4 (xi_if (fun x => x = 0) 11 7) from xs_if_eq hΓ dX5_goOn_4 (by decide)) (fun c => ?_) (fun c => ?_)
  · rw [if_pos c] at e
    exact xw_vret (show xm_Imp g Γ 11 (xi_vret _) from xs_return hΓ rfl dX5_goOn_11) (hP0 _ (xl_fin e hp))
  · rw [if_neg c] at e
    refine xw_ald (show xm_Imp g Γ 7 (xi_ald 0 8) from xs_aload_n hΓ dX5_goOn_7) rfl ?_
    obtain ⟨v1, e1, e⟩ := xo_b_s e
    refine xw_mu0 (show xm_Imp g Γ 8 (xi_vir g 4 M_X5_next 13 0 11) from xs_invV hG hΓ k_X5_next rfl (ci := 4) rfl q3177 q3179 qs75 dX5_goOn_8) rfl (fun Q X hQ => K_X5_next hG hM hB σ e1 hQ) ?_
    exact xw_vret (show xm_Imp g Γ 11 (xi_vret _) from xs_return hΓ rfl dX5_goOn_11) (hP0 _ (xl_fin e hp))
noncomputable def B_X5_reads_42 (σ : xM_S) : Option (Int32 × xM_S) :=
 xo_b (F_X5_goOn σ) (fun v1 =>
 some (((σ.1 26), v1)))
noncomputable def B_X5_reads_14 (l1 : Int32) (l2 : Int32) (l3 : Int32) (s1 : Int32) (σ : xM_S) : Option (Int32 × xM_S) :=
 (if (F_X5_fine (F_X5_needs s1 1 σ)) = 0 then
 B_X5_reads_42 (F_X5_needs s1 1 σ) else
 B_X5_reads_42 (F_X5_needs (F_X5_isIn (((F_X5_needs s1 1 σ).1 26).toInt64) l1.toInt64 l2.toInt64) l3 (F_X5_needs s1 1 σ)))
noncomputable def F_X5_reads (p1 : Int32) (p2 : Int32) (p3 : Int32) (σ : xM_S) : Option (Int32 × xM_S) :=
 B_X5_reads_14 p1 p2 p3 (if (σ.1 24) = 3 then 1 else 0) σ
set_option maxHeartbeats 4000000 in
theorem K_X5_reads {g : xm_G} (hG : xm_Gw g) {h0 : xm_H} {m : Nat} {ad : Nat → Nat} (hM : xM_ok h0 m ad) (hB : xk_B g h0) (p1 : Int32) (p2 : Int32) (p3 : Int32) (σ : xM_S) {o : Int32 × xM_S} (e : F_X5_reads p1 p2 p3 σ = some o) {Q : xm_P} {X : xm_X} (hQ : Q (some (.int o.1)) (xMp h0 m ad o.2)) : xm_Run g M_X5_reads 15 [.ref m, .int p1, .int p2, .int p3] (xMp h0 m ad σ) 0 0 Q X := by
  refine xm_Run.of pn_StringTableauModel (Nat.le_of_ble_eq_true rfl) (fun Γ hΓ => ?_)
  obtain ⟨P0, hP0, hp⟩ : ∃ P : Int32 × xM_S → Prop, (∀ o, P o → Q (some (.int o.1)) (xMp h0 m ad o.2)) ∧ P o := ⟨fun o => Q (some (.int o.1)) (xMp h0 m ad o.2), fun _ h => h, hQ⟩
  clear hQ
  show xm_W g Γ 0 [some (.ref m), some (.int p1), some (.int p2), some (.int p3), none] [] (xMp h0 m ad σ) 0 0
  have hB_42 : ∀ (σ : xM_S) (o : Int32 × xM_S), B_X5_reads_42 σ = some o → P0 o → xm_W g Γ 42 [some (.ref m), none, none, none, none] [] (xMp h0 m ad σ) 0 0 := by
    intro σ o e hp
    unfold B_X5_reads_42 at e
    refine xw_ald (show xm_Imp g Γ 42 (xi_ald 0 43) from xs_aload_n hΓ dX5_reads_42) rfl ?_
    refine xw_mgi (v := (σ.1 26)) (show xm_Imp g Γ 43 (xi_get 4 26 46) from xs_get hG hΓ (ci := 4) (kf := 26) rfl (Nat.le_of_ble_eq_true rfl) q2876 dX5_reads_43) (fun _ => rfl) rfl ?_
    refine xw_ist (ls' := [some (.ref m), none, none, none, some (.int (σ.1 26))]) (show xm_Imp g Γ 46 (xi_ist 4 48) from xs_istore hΓ dX5_reads_46 (Nat.le_of_ble_eq_true rfl)) rfl ?_
    refine xw_ald (show xm_Imp g Γ 48 (xi_ald 0 49) from xs_aload_n hΓ dX5_reads_48) rfl ?_
    obtain ⟨v1, e1, e⟩ := xo_b_s e
    refine xw_mu0 (show xm_Imp g Γ 49 (xi_vir g 4 M_X5_goOn 14 0 52) from xs_invV hG hΓ k_X5_goOn rfl (ci := 4) rfl q3211 q3213 qs81 dX5_reads_49) rfl (fun Q X hQ => K_X5_goOn hG hM hB σ e1 hQ) ?_
    refine xw_ild (show xm_Imp g Γ 52 (xi_ild 4 54) from xs_iload hΓ dX5_reads_52) rfl ?_
    exact xw_iret (show xm_Imp g Γ 54 (xi_iret .int _) from xs_ireturn hΓ rfl dX5_reads_54) (xn_int _) (hP0 _ (xl_fin e hp))
  have hB_14 : ∀ (l1 : Int32) (l2 : Int32) (l3 : Int32) (s1 : Int32) (σ : xM_S) (o : Int32 × xM_S), B_X5_reads_14 l1 l2 l3 s1 σ = some o → P0 o → xm_W g Γ 14 [some (.ref m), some (.int l1), some (.int l2), some (.int l3), none] [.int s1, .ref m] (xMp h0 m ad σ) 0 0 := by
    intro l1 l2 l3 s1 σ o e hp
    unfold B_X5_reads_14 at e
    refine xw_psh (v := (.int (1))) (show xm_Imp g Γ 14 (xi_psh (.int (1)) 15) from xs_iconst hΓ dX5_reads_14 (by decide)) ?_
    refine xw_mu2 (show xm_Imp g Γ 15 (xi_vir g 4 M_X5_needs 1 2 18) from xs_invV hG hΓ k_X5_needs rfl (ci := 4) rfl q3207 q3209 qs80 dX5_reads_15) rfl (fun Q X hQ => K_X5_needs hG hM hB s1 1 σ rfl hQ) ?_
    refine xw_ald (show xm_Imp g Γ 18 (xi_ald 0 19) from xs_aload_n hΓ dX5_reads_18) rfl ?_
    refine xw_mv0 (show xm_Imp g Γ 19 (xi_vir g 4 M_X5_fine 1 0 22) from xs_invV hG hΓ k_X5_fine rfl (ci := 4) rfl q3203 q3205 qs79 dX5_reads_19) rfl (fun Q X hQ => K_X5_fine hG hM hB (F_X5_needs s1 1 σ) rfl hQ) ?_
    refine xw_if (show xm_Imp g Γ 22 (xi_if (fun x => x = 0) 42 25) from xs_if_eq hΓ dX5_reads_22 (by decide)) (fun c => ?_) (fun c => ?_)
    · rw [if_pos c] at e
      exact xm_lx (hB_42 _ _ e hp) (And.intro rfl (trivial))
    · rw [if_neg c] at e
      refine xw_ald (show xm_Imp g Γ 25 (xi_ald 0 26) from xs_aload_n hΓ dX5_reads_25) rfl ?_
      refine xw_ald (show xm_Imp g Γ 26 (xi_ald 0 27) from xs_aload_n hΓ dX5_reads_26) rfl ?_
      refine xw_mgi (v := ((F_X5_needs s1 1 σ).1 26)) (show xm_Imp g Γ 27 (xi_get 4 26 30) from xs_get hG hΓ (ci := 4) (kf := 26) rfl (Nat.le_of_ble_eq_true rfl) q2876 dX5_reads_27) (fun _ => rfl) rfl ?_
      refine xw_i2l (show xm_Imp g Γ 30 (xi_i2l 31) from xs_i2l hΓ dX5_reads_30) ?_
      refine xw_ild (show xm_Imp g Γ 31 (xi_ild 1 32) from xs_iload_n hΓ dX5_reads_31) rfl ?_
      refine xw_i2l (show xm_Imp g Γ 32 (xi_i2l 33) from xs_i2l hΓ dX5_reads_32) ?_
      refine xw_ild (show xm_Imp g Γ 33 (xi_ild 2 34) from xs_iload_n hΓ dX5_reads_33) rfl ?_
      refine xw_i2l (show xm_Imp g Γ 34 (xi_i2l 35) from xs_i2l hΓ dX5_reads_34) ?_
      refine xw_sv3 (show xm_Imp g Γ 35 (xi_inv g M_X5_isIn 1 3 38) from xs_invS hG hΓ k_X5_isIn rfl q2996 q2997 dX5_reads_35) rfl (fun Q X hQ => K_X5_isIn hG (((F_X5_needs s1 1 σ).1 26).toInt64) l1.toInt64 l2.toInt64 rfl hQ) ?_
      refine xw_ild (show xm_Imp g Γ 38 (xi_ild 3 39) from xs_iload_n hΓ dX5_reads_38) rfl ?_
      refine xw_mu2 (show xm_Imp g Γ 39 (xi_vir g 4 M_X5_needs 1 2 42) from xs_invV hG hΓ k_X5_needs rfl (ci := 4) rfl q3207 q3209 qs80 dX5_reads_39) rfl (fun Q X hQ => K_X5_needs hG hM hB (F_X5_isIn (((F_X5_needs s1 1 σ).1 26).toInt64) l1.toInt64 l2.toInt64) l3 (F_X5_needs s1 1 σ) rfl hQ) ?_
      exact xm_lx (hB_42 _ _ e hp) (And.intro rfl (trivial))
  unfold F_X5_reads at e
  refine xw_ald (show xm_Imp g Γ 0 (xi_ald 0 1) from xs_aload_n hΓ dX5_reads_0) rfl ?_
  refine xw_ald (show xm_Imp g Γ 1 (xi_ald 0 2) from xs_aload_n hΓ dX5_reads_1) rfl ?_
  refine xw_mgi (v := (σ.1 24)) (show xm_Imp g Γ 2 (xi_get 4 24 5) from xs_get hG hΓ (ci := 4) (kf := 24) rfl (Nat.le_of_ble_eq_true rfl) q2874 dX5_reads_2) (fun _ => rfl) rfl ?_
  refine xw_psh (v := (.int (3))) (show xm_Imp g Γ 5 (xi_psh (.int (3)) 6) from xs_iconst hΓ dX5_reads_5 (by decide)) ?_
  refine xw_ic (show xm_Imp g Γ 6 (xi_ic (fun x y => x = y) 9 13) from xs_icmp_ne hΓ dX5_reads_6 (by decide)) (fun c => ?_) (fun c => ?_)
  · rw [if_pos c] at e
    refine xw_psh (v := (.int (1))) (show xm_Imp g Γ 9 (xi_psh (.int (1)) 10) from xs_iconst hΓ dX5_reads_9 (by decide)) ?_
    refine xw_goto (show xm_Imp g Γ 10 (xi_goto 14) from xs_goto hΓ dX5_reads_10 (by decide)) ?_
    exact hB_14 _ _ _ _ _ _ e hp
  · rw [if_neg c] at e
    refine xw_psh (v := (.int (0))) (show xm_Imp g Γ 13 (xi_psh (.int (0)) 14) from xs_iconst hΓ dX5_reads_13 (by decide)) ?_
    exact hB_14 _ _ _ _ _ _ e hp
def B_X5_isSign_27 (σ : xM_S) : Int32 :=
 0
def F_X5_isSign (p1 : Int32) (σ : xM_S) : Int32 :=
 (if (F_X5_fine σ) = 0 then
 B_X5_isSign_27 σ else
 (if (σ.1 24) = 4 then
 (if (σ.1 25) = p1 then
 1 else
 B_X5_isSign_27 σ) else
 B_X5_isSign_27 σ))
set_option maxHeartbeats 4000000 in
theorem K_X5_isSign {g : xm_G} (hG : xm_Gw g) {h0 : xm_H} {m : Nat} {ad : Nat → Nat} (hM : xM_ok h0 m ad) (hB : xk_B g h0) (p1 : Int32) (σ : xM_S) {o : Int32} (e : F_X5_isSign p1 σ = o) {Q : xm_P} {X : xm_X} (hQ : Q (some (.int o)) (xMp h0 m ad σ)) : xm_Run g M_X5_isSign 2 [.ref m, .int p1] (xMp h0 m ad σ) 0 0 Q X := by
  refine xm_Run.of pn_StringTableauModel (Nat.le_of_ble_eq_true rfl) (fun Γ hΓ => ?_)
  obtain ⟨P0, hP0, hp⟩ : ∃ P : Int32 → Prop, (∀ o, P o → Q (some (.int o)) (xMp h0 m ad σ)) ∧ P o := ⟨fun o => Q (some (.int o)) (xMp h0 m ad σ), fun _ h => h, hQ⟩
  clear hQ
  show xm_W g Γ 0 [some (.ref m), some (.int p1)] [] (xMp h0 m ad σ) 0 0
  have hB_27 : ∀  (o : Int32), B_X5_isSign_27 σ = o → P0 o → xm_W g Γ 27 [none, none] [] (xMp h0 m ad σ) 0 0 := by
    intro  o e hp
    unfold B_X5_isSign_27 at e
    refine xw_psh (v := (.int (0))) (show xm_Imp g Γ 27 (xi_psh (.int (0)) 28) from xs_iconst hΓ dX5_isSign_27 (by decide)) ?_
    exact xw_iret (show xm_Imp g Γ 28 (xi_iret .boolean _) from xs_ireturn hΓ rfl dX5_isSign_28) rfl (hP0 _ (xl_finV e hp))
  unfold F_X5_isSign at e
  refine xw_ald (show xm_Imp g Γ 0 (xi_ald 0 1) from xs_aload_n hΓ dX5_isSign_0) rfl ?_
  refine xw_mv0 (show xm_Imp g Γ 1 (xi_vir g 4 M_X5_fine 1 0 4) from xs_invV hG hΓ k_X5_fine rfl (ci := 4) rfl q3203 q3205 qs79 dX5_isSign_1) rfl (fun Q X hQ => K_X5_fine hG hM hB σ rfl hQ) ?_
  refine xw_if (show xm_Imp g Γ 4 (xi_if (fun x => x = 0) 27 7) from xs_if_eq hΓ dX5_isSign_4 (by decide)) (fun c => ?_) (fun c => ?_)
  · rw [if_pos c] at e
    exact xm_lx (hB_27 _ e hp) (trivial)
  · rw [if_neg c] at e
    refine xw_ald (show xm_Imp g Γ 7 (xi_ald 0 8) from xs_aload_n hΓ dX5_isSign_7) rfl ?_
    refine xw_mgi (v := (σ.1 24)) (show xm_Imp g Γ 8 (xi_get 4 24 11) from xs_get hG hΓ (ci := 4) (kf := 24) rfl (Nat.le_of_ble_eq_true rfl) q2874 dX5_isSign_8) (fun _ => rfl) rfl ?_
    refine xw_psh (v := (.int (4))) (show xm_Imp g Γ 11 (xi_psh (.int (4)) 12) from xs_iconst hΓ dX5_isSign_11 (by decide)) ?_
    refine xw_ic (show xm_Imp g Γ 12 (xi_ic (fun x y => x = y) 15 27) from xs_icmp_ne hΓ dX5_isSign_12 (by decide)) (fun c => ?_) (fun c => ?_)
    · rw [if_pos c] at e
      refine xw_ald (show xm_Imp g Γ 15 (xi_ald 0 16) from xs_aload_n hΓ dX5_isSign_15) rfl ?_
      refine xw_mgi (v := (σ.1 25)) (show xm_Imp g Γ 16 (xi_get 4 25 19) from xs_get hG hΓ (ci := 4) (kf := 25) rfl (Nat.le_of_ble_eq_true rfl) q2875 dX5_isSign_16) (fun _ => rfl) rfl ?_
      refine xw_ild (show xm_Imp g Γ 19 (xi_ild 1 20) from xs_iload_n hΓ dX5_isSign_19) rfl ?_
      refine xw_ic (show xm_Imp g Γ 20 (xi_ic (fun x y => x = y) 23 27) from xs_icmp_ne hΓ dX5_isSign_20 (by decide)) (fun c => ?_) (fun c => ?_)
      · rw [if_pos c] at e
        refine xw_psh (v := (.int (1))) (show xm_Imp g Γ 23 (xi_psh (.int (1)) 24) from xs_iconst hΓ dX5_isSign_23 (by decide)) ?_
        refine xw_goto (show xm_Imp g Γ 24 (xi_goto 28) from xs_goto hΓ dX5_isSign_24 (by decide)) ?_
        exact xw_iret (show xm_Imp g Γ 28 (xi_iret .boolean _) from xs_ireturn hΓ rfl dX5_isSign_28) rfl (hP0 _ (xl_finV e hp))
      · rw [if_neg c] at e
        exact xm_lx (hB_27 _ e hp) (trivial)
    · rw [if_neg c] at e
      exact xm_lx (hB_27 _ e hp) (trivial)
theorem b_X5_isSign (p1 : Int32) (σ : xM_S) : narrow .boolean (.int (F_X5_isSign p1 σ)) = .int (F_X5_isSign p1 σ) := by
  unfold F_X5_isSign B_X5_isSign_27
  (repeat' split) <;> first | with_reducible exact xb_n0 | with_reducible exact xb_n1 | with_reducible exact b_X5_fine _
noncomputable def F_X5_passesSemicolon (σ : xM_S) : Option (xM_S) :=
 xo_b (F_X5_goOn (F_X5_needs (F_X5_isSign 59 σ) 1 σ)) (fun v1 =>
 some v1)
set_option maxHeartbeats 4000000 in
theorem K_X5_passesSemicolon {g : xm_G} (hG : xm_Gw g) {h0 : xm_H} {m : Nat} {ad : Nat → Nat} (hM : xM_ok h0 m ad) (hB : xk_B g h0)  (σ : xM_S) {o : xM_S} (e : F_X5_passesSemicolon σ = some o) {Q : xm_P} {X : xm_X} (hQ : Q none (xMp h0 m ad o)) : xm_Run g M_X5_passesSemicolon 15 [.ref m] (xMp h0 m ad σ) 0 0 Q X := by
  refine xm_Run.of pn_StringTableauModel (Nat.le_of_ble_eq_true rfl) (fun Γ hΓ => ?_)
  obtain ⟨P0, hP0, hp⟩ : ∃ P : xM_S → Prop, (∀ o, P o → Q none (xMp h0 m ad o)) ∧ P o := ⟨fun o => Q none (xMp h0 m ad o), fun _ h => h, hQ⟩
  clear hQ
  show xm_W g Γ 0 [some (.ref m)] [] (xMp h0 m ad σ) 0 0
  unfold F_X5_passesSemicolon at e
  refine xw_ald (show xm_Imp g Γ 0 (xi_ald 0 1) from xs_aload_n hΓ dX5_passesSemicolon_0) rfl ?_
  refine xw_ald (show xm_Imp g Γ 1 (xi_ald 0 2) from xs_aload_n hΓ dX5_passesSemicolon_1) rfl ?_
  refine xw_psh (v := (.int (59))) (show xm_Imp g Γ 2 (xi_psh (.int (59)) 4) from xs_bipush hΓ dX5_passesSemicolon_2 (by decide)) ?_
  refine xw_mv1 (show xm_Imp g Γ 4 (xi_vir g 4 M_X5_isSign 2 1 7) from xs_invV hG hΓ k_X5_isSign rfl (ci := 4) rfl q3223 q3225 qs84 dX5_passesSemicolon_4) rfl (fun Q X hQ => K_X5_isSign hG hM hB 59 σ rfl hQ) ?_
  refine xw_psh (v := (.int (1))) (show xm_Imp g Γ 7 (xi_psh (.int (1)) 8) from xs_iconst hΓ dX5_passesSemicolon_7 (by decide)) ?_
  refine xw_mu2 (show xm_Imp g Γ 8 (xi_vir g 4 M_X5_needs 1 2 11) from xs_invV hG hΓ k_X5_needs rfl (ci := 4) rfl q3207 q3209 qs80 dX5_passesSemicolon_8) rfl (fun Q X hQ => K_X5_needs hG hM hB (F_X5_isSign 59 σ) 1 σ rfl hQ) ?_
  refine xw_ald (show xm_Imp g Γ 11 (xi_ald 0 12) from xs_aload_n hΓ dX5_passesSemicolon_11) rfl ?_
  obtain ⟨v1, e1, e⟩ := xo_b_s e
  refine xw_mu0 (show xm_Imp g Γ 12 (xi_vir g 4 M_X5_goOn 14 0 15) from xs_invV hG hΓ k_X5_goOn rfl (ci := 4) rfl q3211 q3213 qs81 dX5_passesSemicolon_12) rfl (fun Q X hQ => K_X5_goOn hG hM hB (F_X5_needs (F_X5_isSign 59 σ) 1 σ) e1 hQ) ?_
  exact xw_vret (show xm_Imp g Γ 15 (xi_vret _) from xs_return hΓ rfl dX5_passesSemicolon_15) (hP0 _ (xl_fin e hp))
noncomputable def F_X5_lays (p1 : Int32) (p2 : Int32) (σ : xM_S) : Option (xM_S) :=
 (if (F_X5_fine σ) = 0 then
 some σ else
 xo_b (xa_ix 480 ((8 * (σ.1 34)) + p1)) (fun j1 =>
 some (xM_a σ 33 j1 p2)))
set_option maxHeartbeats 4000000 in
theorem K_X5_lays {g : xm_G} (hG : xm_Gw g) {h0 : xm_H} {m : Nat} {ad : Nat → Nat} (hM : xM_ok h0 m ad) (hB : xk_B g h0) (p1 : Int32) (p2 : Int32) (σ : xM_S) {o : xM_S} (e : F_X5_lays p1 p2 σ = some o) {Q : xm_P} {X : xm_X} (hQ : Q none (xMp h0 m ad o)) : xm_Run g M_X5_lays 2 [.ref m, .int p1, .int p2] (xMp h0 m ad σ) 0 0 Q X := by
  refine xm_Run.of pn_StringTableauModel (Nat.le_of_ble_eq_true rfl) (fun Γ hΓ => ?_)
  obtain ⟨P0, hP0, hp⟩ : ∃ P : xM_S → Prop, (∀ o, P o → Q none (xMp h0 m ad o)) ∧ P o := ⟨fun o => Q none (xMp h0 m ad o), fun _ h => h, hQ⟩
  clear hQ
  show xm_W g Γ 0 [some (.ref m), some (.int p1), some (.int p2)] [] (xMp h0 m ad σ) 0 0
  unfold F_X5_lays at e
  refine xw_ald (show xm_Imp g Γ 0 (xi_ald 0 1) from xs_aload_n hΓ dX5_lays_0) rfl ?_
  refine xw_mv0 (show xm_Imp g Γ 1 (xi_vir g 4 M_X5_fine 1 0 4) from xs_invV hG hΓ k_X5_fine rfl (ci := 4) rfl q3203 q3205 qs79 dX5_lays_1) rfl (fun Q X hQ => K_X5_fine hG hM hB σ rfl hQ) ?_
  refine xw_if (show xm_Imp g Γ 4 (xi_if (fun x => x = 0) 22 7) from xs_if_eq hΓ dX5_lays_4 (by decide)) (fun c => ?_) (fun c => ?_)
  · rw [if_pos c] at e
    exact xw_vret (show xm_Imp g Γ 22 (xi_vret _) from xs_return hΓ rfl dX5_lays_22) (hP0 _ (xl_fin e hp))
  · rw [if_neg c] at e
    refine xw_ald (show xm_Imp g Γ 7 (xi_ald 0 8) from xs_aload_n hΓ dX5_lays_7) rfl ?_
    refine xw_mga (k := 33) (show xm_Imp g Γ 8 (xi_get 4 33 11) from xs_get hG hΓ (ci := 4) (kf := 33) rfl (Nat.le_of_ble_eq_true rfl) q2883 dX5_lays_8) (fun _ => rfl) ?_
    refine xw_psh (v := (.int (8))) (show xm_Imp g Γ 11 (xi_psh (.int (8)) 13) from xs_bipush hΓ dX5_lays_11 (by decide)) ?_
    refine xw_ald (show xm_Imp g Γ 13 (xi_ald 0 14) from xs_aload_n hΓ dX5_lays_13) rfl ?_
    refine xw_mgi (v := (σ.1 34)) (show xm_Imp g Γ 14 (xi_get 4 34 17) from xs_get hG hΓ (ci := 4) (kf := 34) rfl (Nat.le_of_ble_eq_true rfl) q2884 dX5_lays_14) (fun _ => rfl) rfl ?_
    refine xw_ii (show xm_Imp g Γ 17 (xi_ii (fun x y => x * y) 18) from xs_imul hΓ dX5_lays_17) ?_
    refine xw_ild (show xm_Imp g Γ 18 (xi_ild 1 19) from xs_iload_n hΓ dX5_lays_18) rfl ?_
    refine xw_ii (show xm_Imp g Γ 19 (xi_ii (fun x y => x + y) 20) from xs_iadd hΓ dX5_lays_19) ?_
    refine xw_ild (show xm_Imp g Γ 20 (xi_ild 2 21) from xs_iload_n hΓ dX5_lays_20) rfl ?_
    obtain ⟨j1, e1, e⟩ := xo_b_s e
    refine xw_mias (k := 33) (show xm_Imp g Γ 21 (xi_ias 22) from xs_ias hG hΓ dX5_lays_21) hM (by decide) rfl e1 ?_
    exact xw_vret (show xm_Imp g Γ 22 (xi_vret _) from xs_return hΓ rfl dX5_lays_22) (hP0 _ (xl_fin e hp))
noncomputable def B_X5_readsSign_27 (s0 : Int32) (σ : xM_S) : Option (Int32 × xM_S) :=
 (if s0 = 0 then
 some ((s0, σ)) else
 xo_b (F_X5_goOn σ) (fun v1 =>
 some ((s0, v1))))
noncomputable def F_X5_readsSign (σ : xM_S) : Option (Int32 × xM_S) :=
 B_X5_readsSign_27 (if (F_X5_isSign 43 σ) = 0 then (if (F_X5_isSign 45 σ) = 0 then 0 else (-1)) else 1) σ
set_option maxHeartbeats 4000000 in
theorem K_X5_readsSign {g : xm_G} (hG : xm_Gw g) {h0 : xm_H} {m : Nat} {ad : Nat → Nat} (hM : xM_ok h0 m ad) (hB : xk_B g h0)  (σ : xM_S) {o : Int32 × xM_S} (e : F_X5_readsSign σ = some o) {Q : xm_P} {X : xm_X} (hQ : Q (some (.int o.1)) (xMp h0 m ad o.2)) : xm_Run g M_X5_readsSign 15 [.ref m] (xMp h0 m ad σ) 0 0 Q X := by
  refine xm_Run.of pn_StringTableauModel (Nat.le_of_ble_eq_true rfl) (fun Γ hΓ => ?_)
  obtain ⟨P0, hP0, hp⟩ : ∃ P : Int32 × xM_S → Prop, (∀ o, P o → Q (some (.int o.1)) (xMp h0 m ad o.2)) ∧ P o := ⟨fun o => Q (some (.int o.1)) (xMp h0 m ad o.2), fun _ h => h, hQ⟩
  clear hQ
  show xm_W g Γ 0 [some (.ref m), none] [] (xMp h0 m ad σ) 0 0
  have hB_27 : ∀ (s0 : Int32) (σ : xM_S) (o : Int32 × xM_S), B_X5_readsSign_27 s0 σ = some o → P0 o → xm_W g Γ 27 [some (.ref m), none] [.int s0] (xMp h0 m ad σ) 0 0 := by
    intro s0 σ o e hp
    unfold B_X5_readsSign_27 at e
    refine xw_ist (ls' := [some (.ref m), some (.int s0)]) (show xm_Imp g Γ 27 (xi_ist 1 28) from xs_istore_n hΓ dX5_readsSign_27 (Nat.le_of_ble_eq_true rfl)) rfl ?_
    refine xw_ild (show xm_Imp g Γ 28 (xi_ild 1 29) from xs_iload_n hΓ dX5_readsSign_28) rfl ?_
    refine xw_if (show xm_Imp g Γ 29 (xi_if (fun x => x = 0) 36 32) from xs_if_eq hΓ dX5_readsSign_29 (by decide)) (fun c => ?_) (fun c => ?_)
    · rw [if_pos c] at e
      refine xw_ild (show xm_Imp g Γ 36 (xi_ild 1 37) from xs_iload_n hΓ dX5_readsSign_36) rfl ?_
      exact xw_iret (show xm_Imp g Γ 37 (xi_iret .int _) from xs_ireturn hΓ rfl dX5_readsSign_37) (xn_int _) (hP0 _ (xl_fin e hp))
    · rw [if_neg c] at e
      refine xw_ald (show xm_Imp g Γ 32 (xi_ald 0 33) from xs_aload_n hΓ dX5_readsSign_32) rfl ?_
      obtain ⟨v1, e1, e⟩ := xo_b_s e
      refine xw_mu0 (show xm_Imp g Γ 33 (xi_vir g 4 M_X5_goOn 14 0 36) from xs_invV hG hΓ k_X5_goOn rfl (ci := 4) rfl q3211 q3213 qs81 dX5_readsSign_33) rfl (fun Q X hQ => K_X5_goOn hG hM hB σ e1 hQ) ?_
      refine xw_ild (show xm_Imp g Γ 36 (xi_ild 1 37) from xs_iload_n hΓ dX5_readsSign_36) rfl ?_
      exact xw_iret (show xm_Imp g Γ 37 (xi_iret .int _) from xs_ireturn hΓ rfl dX5_readsSign_37) (xn_int _) (hP0 _ (xl_fin e hp))
  unfold F_X5_readsSign at e
  refine xw_ald (show xm_Imp g Γ 0 (xi_ald 0 1) from xs_aload_n hΓ dX5_readsSign_0) rfl ?_
  refine xw_psh (v := (.int (43))) (show xm_Imp g Γ 1 (xi_psh (.int (43)) 3) from xs_bipush hΓ dX5_readsSign_1 (by decide)) ?_
  refine xw_mv1 (show xm_Imp g Γ 3 (xi_vir g 4 M_X5_isSign 2 1 6) from xs_invV hG hΓ k_X5_isSign rfl (ci := 4) rfl q3223 q3225 qs84 dX5_readsSign_3) rfl (fun Q X hQ => K_X5_isSign hG hM hB 43 σ rfl hQ) ?_
  refine xw_if (show xm_Imp g Γ 6 (xi_if (fun x => x = 0) 13 9) from xs_if_eq hΓ dX5_readsSign_6 (by decide)) (fun c => ?_) (fun c => ?_)
  · rw [if_pos c] at e
    refine xw_ald (show xm_Imp g Γ 13 (xi_ald 0 14) from xs_aload_n hΓ dX5_readsSign_13) rfl ?_
    refine xw_psh (v := (.int (45))) (show xm_Imp g Γ 14 (xi_psh (.int (45)) 16) from xs_bipush hΓ dX5_readsSign_14 (by decide)) ?_
    refine xw_mv1 (show xm_Imp g Γ 16 (xi_vir g 4 M_X5_isSign 2 1 19) from xs_invV hG hΓ k_X5_isSign rfl (ci := 4) rfl q3223 q3225 qs84 dX5_readsSign_16) rfl (fun Q X hQ => K_X5_isSign hG hM hB 45 σ rfl hQ) ?_
    refine xw_if (show xm_Imp g Γ 19 (xi_if (fun x => x = 0) 26 22) from xs_if_eq hΓ dX5_readsSign_19 (by decide)) (fun c => ?_) (fun c => ?_)
    · rw [if_pos c] at e
      refine xw_psh (v := (.int (0))) (show xm_Imp g Γ 26 (xi_psh (.int (0)) 27) from xs_iconst hΓ dX5_readsSign_26 (by decide)) ?_
      exact hB_27 _ _ _ e hp
    · rw [if_neg c] at e
      refine xw_psh (v := (.int (-1))) (show xm_Imp g Γ 22 (xi_psh (.int (-1)) 23) from xs_iconst hΓ dX5_readsSign_22 (by decide)) ?_
      refine xw_goto (show xm_Imp g Γ 23 (xi_goto 27) from xs_goto hΓ dX5_readsSign_23 (by decide)) ?_
      exact hB_27 _ _ _ e hp
  · rw [if_neg c] at e
    refine xw_psh (v := (.int (1))) (show xm_Imp g Γ 9 (xi_psh (.int (1)) 10) from xs_iconst hΓ dX5_readsSign_9 (by decide)) ?_
    refine xw_goto (show xm_Imp g Γ 10 (xi_goto 27) from xs_goto hΓ dX5_readsSign_10 (by decide)) ?_
    exact hB_27 _ _ _ e hp
