/-! THE REFERENCE as functions (printed by gen/mkmfun.py) -/
set_option maxRecDepth 100000
noncomputable def B_X5_lightest_127 (l1 : Int32) (l2 : Int32) (l3 : Int32) (l4 : Int32) (l5 : Int32) (l6 : Int32) (σ : xM_S) : Option ((Int32 × Int32 × Int32 × Int32 × Int32 × xM_S) ⊕ (Int32 × xM_S)) :=
 some (Sum.inl (l2, l3, l4, l5, l6 + 1, σ))
noncomputable def B_X5_lightest_97 (l1 : Int32) (l2 : Int32) (l3 : Int32) (l4 : Int32) (l5 : Int32) (l6 : Int32) (s0 : Int32) (σ : xM_S) : Option ((Int32 × Int32 × Int32 × Int32 × Int32 × xM_S) ⊕ (Int32 × xM_S)) :=
 (if s0 < 0 then
 xo_b (F_X5_weight σ) (fun v4 =>
 B_X5_lightest_127 l1 l6 v4 (σ.1 6) (σ.1 7) l6 σ) else
 B_X5_lightest_127 l1 l2 l3 l4 l5 l6 σ)
noncomputable def D_X5_lightest_31 (l1 : Int32) (s : Int32 × Int32 × Int32 × Int32 × Int32 × xM_S) : Option ((Int32 × Int32 × Int32 × Int32 × Int32 × xM_S) ⊕ (Int32 × xM_S)) :=
 (if (F_X5_sets s.2.2.2.2.2) ≤ s.2.2.2.2.1 then
 xl_o (xo_b (F_X5_takesElement s.1 s.2.2.2.2.2) (fun v2 =>
 (if l1 = 3 then
 some ((s.2.1, v2)) else
 some (((F_X5_out l1 v2), v2))))) else
 xo_b (F_X5_takesElement s.2.2.2.2.1 s.2.2.2.2.2) (fun v3 =>
 (if s.1 = 0 then
 B_X5_lightest_97 l1 s.1 s.2.1 s.2.2.1 s.2.2.2.1 s.2.2.2.2.1 (-1) v3 else
 xo_b (F_X5_weight v3) (fun v5 =>
 (if v5 = s.2.1 then
 B_X5_lightest_97 l1 s.1 s.2.1 s.2.2.1 s.2.2.2.1 s.2.2.2.2.1 (if (v3.1 6) = s.2.2.1 then (v3.1 7) - s.2.2.2.1 else (v3.1 6) - s.2.2.1) v3 else
 xo_b (F_X5_weight v3) (fun v6 =>
 B_X5_lightest_97 l1 s.1 s.2.1 s.2.2.1 s.2.2.2.1 s.2.2.2.2.1 (v6 - s.2.1) v3))))))
noncomputable def L_X5_lightest_31 (l1 : Int32) (s : Int32 × Int32 × Int32 × Int32 × Int32 × xM_S) : Option (Int32 × xM_S) := xl_loop (D_X5_lightest_31 l1) s
noncomputable def F_X5_lightest (p1 : Int32) (σ : xM_S) : Option (Int32 × xM_S) :=
 xo_b (F_X5_is (F_X5_isIn p1.toInt64 0 3) σ) (fun v1 =>
 (if v1.1 = 0 then
 some ((0, v1.2)) else
 L_X5_lightest_31 p1 (0, 0, 0, 0, 1, v1.2)))
set_option maxHeartbeats 4000000 in
theorem K_X5_lightest {g : xm_G} (hG : xm_Gw g) {h0 : xm_H} {m : Nat} {ad : Nat → Nat} (hM : xM_ok h0 m ad) (hB : xk_B g h0) (p1 : Int32) (σ : xM_S) {o : Int32 × xM_S} (e : F_X5_lightest p1 σ = some o) {Q : xm_P} {X : xm_X} (hQ : Q (some (.int o.1)) (xMp h0 m ad o.2)) : xm_Run g M_X5_lightest 6 [.ref m, .int p1] (xMp h0 m ad σ) 0 0 Q X := by
  refine xm_Run.of pn_StringTableauModel (Nat.le_of_ble_eq_true rfl) (fun Γ hΓ => ?_)
  obtain ⟨P0, hP0, hp⟩ : ∃ P : Int32 × xM_S → Prop, (∀ o, P o → Q (some (.int o.1)) (xMp h0 m ad o.2)) ∧ P o := ⟨fun o => Q (some (.int o.1)) (xMp h0 m ad o.2), fun _ h => h, hQ⟩
  clear hQ
  show xm_W g Γ 0 [some (.ref m), some (.int p1), none, none, none, none, none, none] [] (xMp h0 m ad σ) 0 0
  have hL_31 : ∀ (l1 : Int32) (s : Int32 × Int32 × Int32 × Int32 × Int32 × xM_S) (o : Int32 × xM_S), L_X5_lightest_31 l1 s = some o → P0 o → xm_W g Γ 31 [some (.ref m), some (.int l1), some (.int s.1), some (.int s.2.1), some (.int s.2.2.1), some (.int s.2.2.2.1), some (.int s.2.2.2.2.1), none] [] (xMp h0 m ad s.2.2.2.2.2) 0 0 := by
    intro l1
    refine xl_rule (WS := fun s : Int32 × Int32 × Int32 × Int32 × Int32 × xM_S => xm_W g Γ 31 [some (.ref m), some (.int l1), some (.int s.1), some (.int s.2.1), some (.int s.2.2.1), some (.int s.2.2.2.1), some (.int s.2.2.2.2.1), none] [] (xMp h0 m ad s.2.2.2.2.2) 0 0) ?_
    intro s o e hp
    obtain ⟨P1, hP1, hp⟩ : ∃ P : (Int32 × Int32 × Int32 × Int32 × Int32 × xM_S) ⊕ (Int32 × xM_S) → Prop, (∀ o, P o → xl_P (fun s : Int32 × Int32 × Int32 × Int32 × Int32 × xM_S => xm_W g Γ 31 [some (.ref m), some (.int l1), some (.int s.1), some (.int s.2.1), some (.int s.2.2.1), some (.int s.2.2.2.1), some (.int s.2.2.2.2.1), none] [] (xMp h0 m ad s.2.2.2.2.2) 0 0) P0 o) ∧ P o := ⟨_, fun _ h => h, hp⟩
    have hB_127 : ∀ (l2 : Int32) (l3 : Int32) (l4 : Int32) (l5 : Int32) (l6 : Int32) (σ : xM_S) (o : (Int32 × Int32 × Int32 × Int32 × Int32 × xM_S) ⊕ (Int32 × xM_S)), B_X5_lightest_127 l1 l2 l3 l4 l5 l6 σ = some o → P1 o → xm_W g Γ 127 [some (.ref m), some (.int l1), some (.int l2), some (.int l3), some (.int l4), some (.int l5), some (.int l6), none] [] (xMp h0 m ad σ) 0 0 := by
      intro l2 l3 l4 l5 l6 σ o e hp
      unfold B_X5_lightest_127 at e
      refine xw_inc (v := (1)) (ls' := [some (.ref m), some (.int l1), some (.int l2), some (.int l3), some (.int l4), some (.int l5), some (.int (l6 + 1)), none]) (show xm_Imp g Γ 127 (xi_inc 6 (1) 130) from xs_iinc hΓ dX5_lightest_127 (by decide) (Nat.le_of_ble_eq_true rfl)) rfl rfl ?_
      refine xw_goto (show xm_Imp g Γ 130 (xi_goto 31) from xs_goto hΓ dX5_lightest_130 (by decide)) ?_
      have hq := xl_P_inl (hP1 _ (xl_fin e hp)); exact hq
    have hB_97 : ∀ (l2 : Int32) (l3 : Int32) (l4 : Int32) (l5 : Int32) (l6 : Int32) (s0 : Int32) (σ : xM_S) (o : (Int32 × Int32 × Int32 × Int32 × Int32 × xM_S) ⊕ (Int32 × xM_S)), B_X5_lightest_97 l1 l2 l3 l4 l5 l6 s0 σ = some o → P1 o → xm_W g Γ 97 [some (.ref m), some (.int l1), some (.int l2), some (.int l3), some (.int l4), some (.int l5), some (.int l6), none] [.int s0] (xMp h0 m ad σ) 0 0 := by
      intro l2 l3 l4 l5 l6 s0 σ o e hp
      unfold B_X5_lightest_97 at e
      refine xw_ist (ls' := [some (.ref m), some (.int l1), some (.int l2), some (.int l3), some (.int l4), some (.int l5), some (.int l6), some (.int s0)]) (show xm_Imp g Γ 97 (xi_ist 7 99) from xs_istore hΓ dX5_lightest_97 (Nat.le_of_ble_eq_true rfl)) rfl ?_
      refine xw_ild (show xm_Imp g Γ 99 (xi_ild 7 101) from xs_iload hΓ dX5_lightest_99) rfl ?_
      refine xw_if (show xm_Imp g Γ 101 (xi_if (fun x => x < 0) 107 104) from xs_if_lt hΓ dX5_lightest_101 (by decide)) (fun c => ?_) (fun c => ?_)
      · rw [if_pos c] at e
        refine xw_ild (show xm_Imp g Γ 107 (xi_ild 6 109) from xs_iload hΓ dX5_lightest_107) rfl ?_
        refine xw_ist (ls' := [some (.ref m), some (.int l1), some (.int l6), some (.int l3), some (.int l4), some (.int l5), some (.int l6), some (.int s0)]) (show xm_Imp g Γ 109 (xi_ist 2 110) from xs_istore_n hΓ dX5_lightest_109 (Nat.le_of_ble_eq_true rfl)) rfl ?_
        refine xw_ald (show xm_Imp g Γ 110 (xi_ald 0 111) from xs_aload_n hΓ dX5_lightest_110) rfl ?_
        obtain ⟨v4, e1, e⟩ := xo_b_s e
        refine xw_mv0 (show xm_Imp g Γ 111 (xi_vir g 4 M_X5_weight 2 0 114) from xs_invV hG hΓ k_X5_weight rfl (ci := 4) rfl q3345 q3347 qs100 dX5_lightest_111) rfl (fun Q X hQ => K_X5_weight hG hM hB σ e1 hQ) ?_
        refine xw_ist (ls' := [some (.ref m), some (.int l1), some (.int l6), some (.int v4), some (.int l4), some (.int l5), some (.int l6), some (.int s0)]) (show xm_Imp g Γ 114 (xi_ist 3 115) from xs_istore_n hΓ dX5_lightest_114 (Nat.le_of_ble_eq_true rfl)) rfl ?_
        refine xw_ald (show xm_Imp g Γ 115 (xi_ald 0 116) from xs_aload_n hΓ dX5_lightest_115) rfl ?_
        refine xw_mgi (v := (σ.1 6)) (show xm_Imp g Γ 116 (xi_get 4 6 119) from xs_get hG hΓ (ci := 4) (kf := 6) rfl (Nat.le_of_ble_eq_true rfl) q2856 dX5_lightest_116) (fun _ => rfl) rfl ?_
        refine xw_ist (ls' := [some (.ref m), some (.int l1), some (.int l6), some (.int v4), some (.int (σ.1 6)), some (.int l5), some (.int l6), some (.int s0)]) (show xm_Imp g Γ 119 (xi_ist 4 121) from xs_istore hΓ dX5_lightest_119 (Nat.le_of_ble_eq_true rfl)) rfl ?_
        refine xw_ald (show xm_Imp g Γ 121 (xi_ald 0 122) from xs_aload_n hΓ dX5_lightest_121) rfl ?_
        refine xw_mgi (v := (σ.1 7)) (show xm_Imp g Γ 122 (xi_get 4 7 125) from xs_get hG hΓ (ci := 4) (kf := 7) rfl (Nat.le_of_ble_eq_true rfl) q2857 dX5_lightest_122) (fun _ => rfl) rfl ?_
        refine xw_ist (ls' := [some (.ref m), some (.int l1), some (.int l6), some (.int v4), some (.int (σ.1 6)), some (.int (σ.1 7)), some (.int l6), some (.int s0)]) (show xm_Imp g Γ 125 (xi_ist 5 127) from xs_istore hΓ dX5_lightest_125 (Nat.le_of_ble_eq_true rfl)) rfl ?_
        exact xm_lx (hB_127 _ _ _ _ _ _ _ e hp) (And.intro rfl (And.intro rfl (And.intro rfl (And.intro rfl (And.intro rfl (And.intro rfl (And.intro rfl (trivial))))))))
      · rw [if_neg c] at e
        refine xw_goto (show xm_Imp g Γ 104 (xi_goto 127) from xs_goto hΓ dX5_lightest_104 (by decide)) ?_
        exact xm_lx (hB_127 _ _ _ _ _ _ _ e hp) (And.intro rfl (And.intro rfl (And.intro rfl (And.intro rfl (And.intro rfl (And.intro rfl (And.intro rfl (trivial))))))))
    unfold D_X5_lightest_31 at e
    refine xw_ild (show xm_Imp g Γ 31 (xi_ild 6 33) from xs_iload hΓ dX5_lightest_31) rfl ?_
    refine xw_ald (show xm_Imp g Γ 33 (xi_ald 0 34) from xs_aload_n hΓ dX5_lightest_33) rfl ?_
    refine xw_mv0 (show xm_Imp g Γ 34 (xi_vir g 4 M_X5_sets 1 0 37) from xs_invV hG hΓ k_X5_sets rfl (ci := 4) rfl q3073 q3075 qs61 dX5_lightest_34) rfl (fun Q X hQ => K_X5_sets hG hM hB s.2.2.2.2.2 rfl hQ) ?_
    refine xw_ic (show xm_Imp g Γ 37 (xi_ic (fun x y => y ≤ x) 133 40) from xs_icmp_ge hΓ dX5_lightest_37 (by decide)) (fun c => ?_) (fun c => ?_)
    · rw [if_pos c] at e
      obtain ⟨_, e, hp⟩ := xl_o_s e (hP1 _ hp)
      refine xw_ald (show xm_Imp g Γ 133 (xi_ald 0 134) from xs_aload_n hΓ dX5_lightest_133) rfl ?_
      refine xw_ild (show xm_Imp g Γ 134 (xi_ild 2 135) from xs_iload_n hΓ dX5_lightest_134) rfl ?_
      obtain ⟨v2, e1, e⟩ := xo_b_s e
      refine xw_mu1 (show xm_Imp g Γ 135 (xi_vir g 4 M_X5_takesElement 5 1 138) from xs_invV hG hΓ k_X5_takesElement rfl (ci := 4) rfl q3097 q3099 qs66 dX5_lightest_135) rfl (fun Q X hQ => K_X5_takesElement hG hM hB s.1 s.2.2.2.2.2 e1 hQ) ?_
      refine xw_ild (show xm_Imp g Γ 138 (xi_ild 1 139) from xs_iload_n hΓ dX5_lightest_138) rfl ?_
      refine xw_psh (v := (.int (3))) (show xm_Imp g Γ 139 (xi_psh (.int (3)) 140) from xs_iconst hΓ dX5_lightest_139 (by decide)) ?_
      refine xw_ic (show xm_Imp g Γ 140 (xi_ic (fun x y => x = y) 143 147) from xs_icmp_ne hΓ dX5_lightest_140 (by decide)) (fun c => ?_) (fun c => ?_)
      · rw [if_pos c] at e
        refine xw_ild (show xm_Imp g Γ 143 (xi_ild 3 144) from xs_iload_n hΓ dX5_lightest_143) rfl ?_
        refine xw_goto (show xm_Imp g Γ 144 (xi_goto 152) from xs_goto hΓ dX5_lightest_144 (by decide)) ?_
        exact xw_iret (show xm_Imp g Γ 152 (xi_iret .int _) from xs_ireturn hΓ rfl dX5_lightest_152) (xn_int _) (hP0 _ (xl_fin e hp))
      · rw [if_neg c] at e
        refine xw_ald (show xm_Imp g Γ 147 (xi_ald 0 148) from xs_aload_n hΓ dX5_lightest_147) rfl ?_
        refine xw_ild (show xm_Imp g Γ 148 (xi_ild 1 149) from xs_iload_n hΓ dX5_lightest_148) rfl ?_
        refine xw_mv1 (show xm_Imp g Γ 149 (xi_vir g 4 M_X5_out 1 1 152) from xs_invV hG hΓ k_X5_out rfl (ci := 4) rfl q3337 q3339 qs99 dX5_lightest_149) rfl (fun Q X hQ => K_X5_out hG hM hB l1 v2 rfl hQ) ?_
        exact xw_iret (show xm_Imp g Γ 152 (xi_iret .int _) from xs_ireturn hΓ rfl dX5_lightest_152) (xn_int _) (hP0 _ (xl_fin e hp))
    · rw [if_neg c] at e
      refine xw_ald (show xm_Imp g Γ 40 (xi_ald 0 41) from xs_aload_n hΓ dX5_lightest_40) rfl ?_
      refine xw_ild (show xm_Imp g Γ 41 (xi_ild 6 43) from xs_iload hΓ dX5_lightest_41) rfl ?_
      obtain ⟨v3, e1, e⟩ := xo_b_s e
      refine xw_mu1 (show xm_Imp g Γ 43 (xi_vir g 4 M_X5_takesElement 5 1 46) from xs_invV hG hΓ k_X5_takesElement rfl (ci := 4) rfl q3097 q3099 qs66 dX5_lightest_43) rfl (fun Q X hQ => K_X5_takesElement hG hM hB s.2.2.2.2.1 s.2.2.2.2.2 e1 hQ) ?_
      refine xw_ild (show xm_Imp g Γ 46 (xi_ild 2 47) from xs_iload_n hΓ dX5_lightest_46) rfl ?_
      refine xw_if (show xm_Imp g Γ 47 (xi_if (fun x => x = 0) 50 54) from xs_if_ne hΓ dX5_lightest_47 (by decide)) (fun c => ?_) (fun c => ?_)
      · rw [if_pos c] at e
        refine xw_psh (v := (.int (-1))) (show xm_Imp g Γ 50 (xi_psh (.int (-1)) 51) from xs_iconst hΓ dX5_lightest_50 (by decide)) ?_
        refine xw_goto (show xm_Imp g Γ 51 (xi_goto 97) from xs_goto hΓ dX5_lightest_51 (by decide)) ?_
        exact hB_97 _ _ _ _ _ _ _ _ e hp
      · rw [if_neg c] at e
        refine xw_ald (show xm_Imp g Γ 54 (xi_ald 0 55) from xs_aload_n hΓ dX5_lightest_54) rfl ?_
        obtain ⟨v5, e1, e⟩ := xo_b_s e
        refine xw_mv0 (show xm_Imp g Γ 55 (xi_vir g 4 M_X5_weight 2 0 58) from xs_invV hG hΓ k_X5_weight rfl (ci := 4) rfl q3345 q3347 qs100 dX5_lightest_55) rfl (fun Q X hQ => K_X5_weight hG hM hB v3 e1 hQ) ?_
        refine xw_ild (show xm_Imp g Γ 58 (xi_ild 3 59) from xs_iload_n hΓ dX5_lightest_58) rfl ?_
        refine xw_ic (show xm_Imp g Γ 59 (xi_ic (fun x y => x = y) 71 62) from xs_icmp_eq hΓ dX5_lightest_59 (by decide)) (fun c => ?_) (fun c => ?_)
        · rw [if_pos c] at e
          refine xw_ald (show xm_Imp g Γ 71 (xi_ald 0 72) from xs_aload_n hΓ dX5_lightest_71) rfl ?_
          refine xw_mgi (v := (v3.1 6)) (show xm_Imp g Γ 72 (xi_get 4 6 75) from xs_get hG hΓ (ci := 4) (kf := 6) rfl (Nat.le_of_ble_eq_true rfl) q2856 dX5_lightest_72) (fun _ => rfl) rfl ?_
          refine xw_ild (show xm_Imp g Γ 75 (xi_ild 4 77) from xs_iload hΓ dX5_lightest_75) rfl ?_
          refine xw_ic (show xm_Imp g Γ 77 (xi_ic (fun x y => x = y) 90 80) from xs_icmp_eq hΓ dX5_lightest_77 (by decide)) (fun c => ?_) (fun c => ?_)
          · rw [if_pos c] at e
            refine xw_ald (show xm_Imp g Γ 90 (xi_ald 0 91) from xs_aload_n hΓ dX5_lightest_90) rfl ?_
            refine xw_mgi (v := (v3.1 7)) (show xm_Imp g Γ 91 (xi_get 4 7 94) from xs_get hG hΓ (ci := 4) (kf := 7) rfl (Nat.le_of_ble_eq_true rfl) q2857 dX5_lightest_91) (fun _ => rfl) rfl ?_
            refine xw_ild (show xm_Imp g Γ 94 (xi_ild 5 96) from xs_iload hΓ dX5_lightest_94) rfl ?_
            refine xw_ii (show xm_Imp g Γ 96 (xi_ii (fun x y => x - y) 97) from xs_isub hΓ dX5_lightest_96) ?_
            exact hB_97 _ _ _ _ _ _ _ _ e hp
          · rw [if_neg c] at e
            refine xw_ald (show xm_Imp g Γ 80 (xi_ald 0 81) from xs_aload_n hΓ dX5_lightest_80) rfl ?_
            refine xw_mgi (v := (v3.1 6)) (show xm_Imp g Γ 81 (xi_get 4 6 84) from xs_get hG hΓ (ci := 4) (kf := 6) rfl (Nat.le_of_ble_eq_true rfl) q2856 dX5_lightest_81) (fun _ => rfl) rfl ?_
            refine xw_ild (show xm_Imp g Γ 84 (xi_ild 4 86) from xs_iload hΓ dX5_lightest_84) rfl ?_
            refine xw_ii (show xm_Imp g Γ 86 (xi_ii (fun x y => x - y) 87) from xs_isub hΓ dX5_lightest_86) ?_
            refine xw_goto (show xm_Imp g Γ 87 (xi_goto 97) from xs_goto hΓ dX5_lightest_87 (by decide)) ?_
            exact hB_97 _ _ _ _ _ _ _ _ e hp
        · rw [if_neg c] at e
          refine xw_ald (show xm_Imp g Γ 62 (xi_ald 0 63) from xs_aload_n hΓ dX5_lightest_62) rfl ?_
          obtain ⟨v6, e1, e⟩ := xo_b_s e
          refine xw_mv0 (show xm_Imp g Γ 63 (xi_vir g 4 M_X5_weight 2 0 66) from xs_invV hG hΓ k_X5_weight rfl (ci := 4) rfl q3345 q3347 qs100 dX5_lightest_63) rfl (fun Q X hQ => K_X5_weight hG hM hB v3 e1 hQ) ?_
          refine xw_ild (show xm_Imp g Γ 66 (xi_ild 3 67) from xs_iload_n hΓ dX5_lightest_66) rfl ?_
          refine xw_ii (show xm_Imp g Γ 67 (xi_ii (fun x y => x - y) 68) from xs_isub hΓ dX5_lightest_67) ?_
          refine xw_goto (show xm_Imp g Γ 68 (xi_goto 97) from xs_goto hΓ dX5_lightest_68 (by decide)) ?_
          exact hB_97 _ _ _ _ _ _ _ _ e hp
  unfold F_X5_lightest at e
  refine xw_ald (show xm_Imp g Γ 0 (xi_ald 0 1) from xs_aload_n hΓ dX5_lightest_0) rfl ?_
  refine xw_ild (show xm_Imp g Γ 1 (xi_ild 1 2) from xs_iload_n hΓ dX5_lightest_1) rfl ?_
  refine xw_i2l (show xm_Imp g Γ 2 (xi_i2l 3) from xs_i2l hΓ dX5_lightest_2) ?_
  refine xw_psh (v := (.long 0)) (show xm_Imp g Γ 3 (xi_psh (.long 0) 4) from xs_lconst hΓ dX5_lightest_3 (by decide)) ?_
  refine xw_psh (v := (.long (3))) (show xm_Imp g Γ 4 (xi_psh (.long (3)) 7) from xs_ldc2 hG hΓ q3356 dX5_lightest_4) ?_
  refine xw_sv3 (show xm_Imp g Γ 7 (xi_inv g M_X5_isIn 1 3 10) from xs_invS hG hΓ k_X5_isIn rfl q2996 q2997 dX5_lightest_7) rfl (fun Q X hQ => K_X5_isIn hG p1.toInt64 0 3 rfl hQ) ?_
  obtain ⟨v1, e1, e⟩ := xo_b_s e
  refine xw_mv1 (show xm_Imp g Γ 10 (xi_vir g 4 M_X5_is 1 1 13) from xs_invV hG hΓ k_X5_is rfl (ci := 4) rfl q2986 q2988 qs46 dX5_lightest_10) rfl (fun Q X hQ => K_X5_is hG hM hB (F_X5_isIn p1.toInt64 0 3) σ e1 hQ) ?_
  refine xw_if (show xm_Imp g Γ 13 (xi_if (fun x => x = 0) 16 18) from xs_if_ne hΓ dX5_lightest_13 (by decide)) (fun c => ?_) (fun c => ?_)
  · rw [if_pos c] at e
    refine xw_psh (v := (.int (0))) (show xm_Imp g Γ 16 (xi_psh (.int (0)) 17) from xs_iconst hΓ dX5_lightest_16 (by decide)) ?_
    exact xw_iret (show xm_Imp g Γ 17 (xi_iret .int _) from xs_ireturn hΓ rfl dX5_lightest_17) (xn_int _) (hP0 _ (xl_fin e hp))
  · rw [if_neg c] at e
    refine xw_psh (v := (.int (0))) (show xm_Imp g Γ 18 (xi_psh (.int (0)) 19) from xs_iconst hΓ dX5_lightest_18 (by decide)) ?_
    refine xw_ist (ls' := [some (.ref m), some (.int p1), some (.int 0), none, none, none, none, none]) (show xm_Imp g Γ 19 (xi_ist 2 20) from xs_istore_n hΓ dX5_lightest_19 (Nat.le_of_ble_eq_true rfl)) rfl ?_
    refine xw_psh (v := (.int (0))) (show xm_Imp g Γ 20 (xi_psh (.int (0)) 21) from xs_iconst hΓ dX5_lightest_20 (by decide)) ?_
    refine xw_ist (ls' := [some (.ref m), some (.int p1), some (.int 0), some (.int 0), none, none, none, none]) (show xm_Imp g Γ 21 (xi_ist 3 22) from xs_istore_n hΓ dX5_lightest_21 (Nat.le_of_ble_eq_true rfl)) rfl ?_
    refine xw_psh (v := (.int (0))) (show xm_Imp g Γ 22 (xi_psh (.int (0)) 23) from xs_iconst hΓ dX5_lightest_22 (by decide)) ?_
    refine xw_ist (ls' := [some (.ref m), some (.int p1), some (.int 0), some (.int 0), some (.int 0), none, none, none]) (show xm_Imp g Γ 23 (xi_ist 4 25) from xs_istore hΓ dX5_lightest_23 (Nat.le_of_ble_eq_true rfl)) rfl ?_
    refine xw_psh (v := (.int (0))) (show xm_Imp g Γ 25 (xi_psh (.int (0)) 26) from xs_iconst hΓ dX5_lightest_25 (by decide)) ?_
    refine xw_ist (ls' := [some (.ref m), some (.int p1), some (.int 0), some (.int 0), some (.int 0), some (.int 0), none, none]) (show xm_Imp g Γ 26 (xi_ist 5 28) from xs_istore hΓ dX5_lightest_26 (Nat.le_of_ble_eq_true rfl)) rfl ?_
    refine xw_psh (v := (.int (1))) (show xm_Imp g Γ 28 (xi_psh (.int (1)) 29) from xs_iconst hΓ dX5_lightest_28 (by decide)) ?_
    refine xw_ist (ls' := [some (.ref m), some (.int p1), some (.int 0), some (.int 0), some (.int 0), some (.int 0), some (.int 1), none]) (show xm_Imp g Γ 29 (xi_ist 6 31) from xs_istore hΓ dX5_lightest_29 (Nat.le_of_ble_eq_true rfl)) rfl ?_
    exact hL_31 _ _ _ e hp
def B_X5_isPiece_21 (σ : xM_S) : Int32 :=
 0
def F_X5_isPiece (p1 : Int32) (p2 : Int32) (σ : xM_S) : Int32 :=
 (if p1 < 0 then
 B_X5_isPiece_21 σ else
 (if p2 < p1 then
 B_X5_isPiece_21 σ else
 (if (σ.1 18) < p2 then
 B_X5_isPiece_21 σ else
 1)))
set_option maxHeartbeats 4000000 in
theorem K_X5_isPiece {g : xm_G} (hG : xm_Gw g) {h0 : xm_H} {m : Nat} {ad : Nat → Nat} (hM : xM_ok h0 m ad) (hB : xk_B g h0) (p1 : Int32) (p2 : Int32) (σ : xM_S) {o : Int32} (e : F_X5_isPiece p1 p2 σ = o) {Q : xm_P} {X : xm_X} (hQ : Q (some (.int o)) (xMp h0 m ad σ)) : xm_Run g M_X5_isPiece 1 [.ref m, .int p1, .int p2] (xMp h0 m ad σ) 0 0 Q X := by
  refine xm_Run.of pn_StringTableauModel (Nat.le_of_ble_eq_true rfl) (fun Γ hΓ => ?_)
  obtain ⟨P0, hP0, hp⟩ : ∃ P : Int32 → Prop, (∀ o, P o → Q (some (.int o)) (xMp h0 m ad σ)) ∧ P o := ⟨fun o => Q (some (.int o)) (xMp h0 m ad σ), fun _ h => h, hQ⟩
  clear hQ
  show xm_W g Γ 0 [some (.ref m), some (.int p1), some (.int p2)] [] (xMp h0 m ad σ) 0 0
  have hB_21 : ∀  (o : Int32), B_X5_isPiece_21 σ = o → P0 o → xm_W g Γ 21 [none, none, none] [] (xMp h0 m ad σ) 0 0 := by
    intro  o e hp
    unfold B_X5_isPiece_21 at e
    refine xw_psh (v := (.int (0))) (show xm_Imp g Γ 21 (xi_psh (.int (0)) 22) from xs_iconst hΓ dX5_isPiece_21 (by decide)) ?_
    exact xw_iret (show xm_Imp g Γ 22 (xi_iret .boolean _) from xs_ireturn hΓ rfl dX5_isPiece_22) rfl (hP0 _ (xl_finV e hp))
  unfold F_X5_isPiece at e
  refine xw_ild (show xm_Imp g Γ 0 (xi_ild 1 1) from xs_iload_n hΓ dX5_isPiece_0) rfl ?_
  refine xw_if (show xm_Imp g Γ 1 (xi_if (fun x => x < 0) 21 4) from xs_if_lt hΓ dX5_isPiece_1 (by decide)) (fun c => ?_) (fun c => ?_)
  · rw [if_pos c] at e
    exact xm_lx (hB_21 _ e hp) (trivial)
  · rw [if_neg c] at e
    refine xw_ild (show xm_Imp g Γ 4 (xi_ild 2 5) from xs_iload_n hΓ dX5_isPiece_4) rfl ?_
    refine xw_ild (show xm_Imp g Γ 5 (xi_ild 1 6) from xs_iload_n hΓ dX5_isPiece_5) rfl ?_
    refine xw_ic (show xm_Imp g Γ 6 (xi_ic (fun x y => x < y) 21 9) from xs_icmp_lt hΓ dX5_isPiece_6 (by decide)) (fun c => ?_) (fun c => ?_)
    · rw [if_pos c] at e
      exact xm_lx (hB_21 _ e hp) (trivial)
    · rw [if_neg c] at e
      refine xw_ild (show xm_Imp g Γ 9 (xi_ild 2 10) from xs_iload_n hΓ dX5_isPiece_9) rfl ?_
      refine xw_ald (show xm_Imp g Γ 10 (xi_ald 0 11) from xs_aload_n hΓ dX5_isPiece_10) rfl ?_
      refine xw_mgi (v := (σ.1 18)) (show xm_Imp g Γ 11 (xi_get 4 18 14) from xs_get hG hΓ (ci := 4) (kf := 18) rfl (Nat.le_of_ble_eq_true rfl) q2868 dX5_isPiece_11) (fun _ => rfl) rfl ?_
      refine xw_ic (show xm_Imp g Γ 14 (xi_ic (fun x y => y < x) 21 17) from xs_icmp_gt hΓ dX5_isPiece_14 (by decide)) (fun c => ?_) (fun c => ?_)
      · rw [if_pos c] at e
        exact xm_lx (hB_21 _ e hp) (trivial)
      · rw [if_neg c] at e
        refine xw_psh (v := (.int (1))) (show xm_Imp g Γ 17 (xi_psh (.int (1)) 18) from xs_iconst hΓ dX5_isPiece_17 (by decide)) ?_
        refine xw_goto (show xm_Imp g Γ 18 (xi_goto 22) from xs_goto hΓ dX5_isPiece_18 (by decide)) ?_
        exact xw_iret (show xm_Imp g Γ 22 (xi_iret .boolean _) from xs_ireturn hΓ rfl dX5_isPiece_22) rfl (hP0 _ (xl_finV e hp))
theorem b_X5_isPiece (p1 : Int32) (p2 : Int32) (σ : xM_S) : narrow .boolean (.int (F_X5_isPiece p1 p2 σ)) = .int (F_X5_isPiece p1 p2 σ) := by
  unfold F_X5_isPiece B_X5_isPiece_21
  (repeat' split) <;> first | with_reducible exact xb_n0 | with_reducible exact xb_n1
noncomputable def D_X5_areGates_2 (l2 : Int32) (σ : xM_S) (s : Int32) : Option ((Int32) ⊕ (Int32)) :=
 (if l2 ≤ s then
 xl_o (some (1)) else
 xo_b (xa_ix 60 s) (fun j1 =>
 (if (σ.2 9 j1) = 9 then
 xl_o (some (0)) else
 some (Sum.inl (s + 1)))))
noncomputable def L_X5_areGates_2 (l2 : Int32) (σ : xM_S) (s : Int32) : Option (Int32) := xl_loop (D_X5_areGates_2 l2 σ) s
noncomputable def F_X5_areGates (p1 : Int32) (p2 : Int32) (σ : xM_S) : Option (Int32) :=
 L_X5_areGates_2 p2 σ p1
set_option maxHeartbeats 4000000 in
theorem K_X5_areGates {g : xm_G} (hG : xm_Gw g) {h0 : xm_H} {m : Nat} {ad : Nat → Nat} (hM : xM_ok h0 m ad) (hB : xk_B g h0) (p1 : Int32) (p2 : Int32) (σ : xM_S) {o : Int32} (e : F_X5_areGates p1 p2 σ = some o) {Q : xm_P} {X : xm_X} (hQ : Q (some (.int o)) (xMp h0 m ad σ)) : xm_Run g M_X5_areGates 1 [.ref m, .int p1, .int p2] (xMp h0 m ad σ) 0 0 Q X := by
  refine xm_Run.of pn_StringTableauModel (Nat.le_of_ble_eq_true rfl) (fun Γ hΓ => ?_)
  obtain ⟨P0, hP0, hp⟩ : ∃ P : Int32 → Prop, (∀ o, P o → Q (some (.int o)) (xMp h0 m ad σ)) ∧ P o := ⟨fun o => Q (some (.int o)) (xMp h0 m ad σ), fun _ h => h, hQ⟩
  clear hQ
  show xm_W g Γ 0 [some (.ref m), some (.int p1), some (.int p2), none] [] (xMp h0 m ad σ) 0 0
  have hL_2 : ∀ (l2 : Int32) (s : Int32) (o : Int32), L_X5_areGates_2 l2 σ s = some o → P0 o → xm_W g Γ 2 [some (.ref m), none, some (.int l2), some (.int s)] [] (xMp h0 m ad σ) 0 0 := by
    intro l2
    refine xl_rule (WS := fun s : Int32 => xm_W g Γ 2 [some (.ref m), none, some (.int l2), some (.int s)] [] (xMp h0 m ad σ) 0 0) ?_
    intro s o e hp
    obtain ⟨P1, hP1, hp⟩ : ∃ P : (Int32) ⊕ (Int32) → Prop, (∀ o, P o → xl_P (fun s : Int32 => xm_W g Γ 2 [some (.ref m), none, some (.int l2), some (.int s)] [] (xMp h0 m ad σ) 0 0) P0 o) ∧ P o := ⟨_, fun _ h => h, hp⟩
    unfold D_X5_areGates_2 at e
    refine xw_ild (show xm_Imp g Γ 2 (xi_ild 3 3) from xs_iload_n hΓ dX5_areGates_2) rfl ?_
    refine xw_ild (show xm_Imp g Γ 3 (xi_ild 2 4) from xs_iload_n hΓ dX5_areGates_3) rfl ?_
    refine xw_ic (show xm_Imp g Γ 4 (xi_ic (fun x y => y ≤ x) 26 7) from xs_icmp_ge hΓ dX5_areGates_4 (by decide)) (fun c => ?_) (fun c => ?_)
    · rw [if_pos c] at e
      obtain ⟨_, e, hp⟩ := xl_o_s e (hP1 _ hp)
      refine xw_psh (v := (.int (1))) (show xm_Imp g Γ 26 (xi_psh (.int (1)) 27) from xs_iconst hΓ dX5_areGates_26 (by decide)) ?_
      exact xw_iret (show xm_Imp g Γ 27 (xi_iret .boolean _) from xs_ireturn hΓ rfl dX5_areGates_27) rfl (hP0 _ (xl_fin e hp))
    · rw [if_neg c] at e
      refine xw_ald (show xm_Imp g Γ 7 (xi_ald 0 8) from xs_aload_n hΓ dX5_areGates_7) rfl ?_
      refine xw_mga (k := 9) (show xm_Imp g Γ 8 (xi_get 4 9 11) from xs_get hG hΓ (ci := 4) (kf := 9) rfl (Nat.le_of_ble_eq_true rfl) q2859 dX5_areGates_8) (fun _ => rfl) ?_
      refine xw_ild (show xm_Imp g Γ 11 (xi_ild 3 12) from xs_iload_n hΓ dX5_areGates_11) rfl ?_
      obtain ⟨j1, e1, e⟩ := xo_b_s e
      refine xw_mial (k := 9) (v := (σ.2 9 j1)) (show xm_Imp g Γ 12 (xi_ial 13) from xs_ial hG hΓ dX5_areGates_12) hM (by decide) rfl e1 rfl ?_
      refine xw_psh (v := (.int (9))) (show xm_Imp g Γ 13 (xi_psh (.int (9)) 15) from xs_bipush hΓ dX5_areGates_13 (by decide)) ?_
      refine xw_ic (show xm_Imp g Γ 15 (xi_ic (fun x y => x = y) 18 20) from xs_icmp_ne hΓ dX5_areGates_15 (by decide)) (fun c => ?_) (fun c => ?_)
      · rw [if_pos c] at e
        obtain ⟨_, e, hp⟩ := xl_o_s e (hP1 _ hp)
        refine xw_psh (v := (.int (0))) (show xm_Imp g Γ 18 (xi_psh (.int (0)) 19) from xs_iconst hΓ dX5_areGates_18 (by decide)) ?_
        exact xw_iret (show xm_Imp g Γ 19 (xi_iret .boolean _) from xs_ireturn hΓ rfl dX5_areGates_19) rfl (hP0 _ (xl_fin e hp))
      · rw [if_neg c] at e
        refine xw_inc (v := (1)) (ls' := [some (.ref m), none, some (.int l2), some (.int (s + 1))]) (show xm_Imp g Γ 20 (xi_inc 3 (1) 23) from xs_iinc hΓ dX5_areGates_20 (by decide) (Nat.le_of_ble_eq_true rfl)) rfl rfl ?_
        refine xw_goto (show xm_Imp g Γ 23 (xi_goto 2) from xs_goto hΓ dX5_areGates_23 (by decide)) ?_
        have hq := xl_P_inl (hP1 _ (xl_fin e hp)); exact hq
  unfold F_X5_areGates at e
  refine xw_ild (show xm_Imp g Γ 0 (xi_ild 1 1) from xs_iload_n hΓ dX5_areGates_0) rfl ?_
  refine xw_ist (ls' := [some (.ref m), some (.int p1), some (.int p2), some (.int p1)]) (show xm_Imp g Γ 1 (xi_ist 3 2) from xs_istore_n hΓ dX5_areGates_1 (Nat.le_of_ble_eq_true rfl)) rfl ?_
  exact xm_lx (hL_2 _ _ _ e hp) (And.intro rfl (And.intro rfl (And.intro rfl (trivial))))
noncomputable def B_X5_mayPush_67 (σ : xM_S) : Option (Int32 × xM_S) :=
 some ((0, σ))
noncomputable def B_X5_mayPush_28 (l1 : Int32) (l2 : Int32) (l3 : Int32) (l4 : Int32) (s1 : Int32) (σ : xM_S) : Option (Int32 × xM_S) :=
 xo_b (F_X5_is s1 σ) (fun v1 =>
 (if v1.1 = 0 then
 B_X5_mayPush_67 v1.2 else
 xo_b (F_X5_may (F_X5_areMasks l3 l4 v1.2) 2 v1.2) (fun v2 =>
 (if v2.1 = 0 then
 B_X5_mayPush_67 v2.2 else
 xo_b (F_X5_areGates l1 l2 v2.2) (fun v3 =>
 xo_b (F_X5_may v3 3 v2.2) (fun v4 =>
 (if v4.1 = 0 then
 B_X5_mayPush_67 v4.2 else
 some ((1, v4.2)))))))))
noncomputable def F_X5_mayPush (p1 : Int32) (p2 : Int32) (p3 : Int32) (p4 : Int32) (p5 : Int32) (σ : xM_S) : Option (Int32 × xM_S) :=
 B_X5_mayPush_28 p1 p2 p3 p4 (if (F_X5_isPiece p1 p2 σ) = 0 then 0 else (if (F_X5_isIn p5.toInt64 0 2) = 0 then 0 else 1)) σ
set_option maxHeartbeats 4000000 in
theorem K_X5_mayPush {g : xm_G} (hG : xm_Gw g) {h0 : xm_H} {m : Nat} {ad : Nat → Nat} (hM : xM_ok h0 m ad) (hB : xk_B g h0) (p1 : Int32) (p2 : Int32) (p3 : Int32) (p4 : Int32) (p5 : Int32) (σ : xM_S) {o : Int32 × xM_S} (e : F_X5_mayPush p1 p2 p3 p4 p5 σ = some o) {Q : xm_P} {X : xm_X} (hQ : Q (some (.int o.1)) (xMp h0 m ad o.2)) : xm_Run g M_X5_mayPush 3 [.ref m, .int p1, .int p2, .int p3, .int p4, .int p5] (xMp h0 m ad σ) 0 0 Q X := by
  refine xm_Run.of pn_StringTableauModel (Nat.le_of_ble_eq_true rfl) (fun Γ hΓ => ?_)
  obtain ⟨P0, hP0, hp⟩ : ∃ P : Int32 × xM_S → Prop, (∀ o, P o → Q (some (.int o.1)) (xMp h0 m ad o.2)) ∧ P o := ⟨fun o => Q (some (.int o.1)) (xMp h0 m ad o.2), fun _ h => h, hQ⟩
  clear hQ
  show xm_W g Γ 0 [some (.ref m), some (.int p1), some (.int p2), some (.int p3), some (.int p4), some (.int p5)] [] (xMp h0 m ad σ) 0 0
  have hB_67 : ∀ (σ : xM_S) (o : Int32 × xM_S), B_X5_mayPush_67 σ = some o → P0 o → xm_W g Γ 67 [none, none, none, none, none, none] [] (xMp h0 m ad σ) 0 0 := by
    intro σ o e hp
    unfold B_X5_mayPush_67 at e
    refine xw_psh (v := (.int (0))) (show xm_Imp g Γ 67 (xi_psh (.int (0)) 68) from xs_iconst hΓ dX5_mayPush_67 (by decide)) ?_
    exact xw_iret (show xm_Imp g Γ 68 (xi_iret .boolean _) from xs_ireturn hΓ rfl dX5_mayPush_68) rfl (hP0 _ (xl_fin e hp))
  have hB_28 : ∀ (l1 : Int32) (l2 : Int32) (l3 : Int32) (l4 : Int32) (s1 : Int32) (σ : xM_S) (o : Int32 × xM_S), B_X5_mayPush_28 l1 l2 l3 l4 s1 σ = some o → P0 o → xm_W g Γ 28 [some (.ref m), some (.int l1), some (.int l2), some (.int l3), some (.int l4), none] [.int s1, .ref m] (xMp h0 m ad σ) 0 0 := by
    intro l1 l2 l3 l4 s1 σ o e hp
    unfold B_X5_mayPush_28 at e
    obtain ⟨v1, e1, e⟩ := xo_b_s e
    refine xw_mv1 (show xm_Imp g Γ 28 (xi_vir g 4 M_X5_is 1 1 31) from xs_invV hG hΓ k_X5_is rfl (ci := 4) rfl q2986 q2988 qs46 dX5_mayPush_28) rfl (fun Q X hQ => K_X5_is hG hM hB s1 σ e1 hQ) ?_
    refine xw_if (show xm_Imp g Γ 31 (xi_if (fun x => x = 0) 67 34) from xs_if_eq hΓ dX5_mayPush_31 (by decide)) (fun c => ?_) (fun c => ?_)
    · rw [if_pos c] at e
      exact xm_lx (hB_67 _ _ e hp) (trivial)
    · rw [if_neg c] at e
      refine xw_ald (show xm_Imp g Γ 34 (xi_ald 0 35) from xs_aload_n hΓ dX5_mayPush_34) rfl ?_
      refine xw_ald (show xm_Imp g Γ 35 (xi_ald 0 36) from xs_aload_n hΓ dX5_mayPush_35) rfl ?_
      refine xw_ild (show xm_Imp g Γ 36 (xi_ild 3 37) from xs_iload_n hΓ dX5_mayPush_36) rfl ?_
      refine xw_ild (show xm_Imp g Γ 37 (xi_ild 4 39) from xs_iload hΓ dX5_mayPush_37) rfl ?_
      refine xw_mv2 (show xm_Imp g Γ 39 (xi_vir g 4 M_X5_areMasks 2 2 42) from xs_invV hG hΓ k_X5_areMasks rfl (ci := 4) rfl q3069 q3071 qs60 dX5_mayPush_39) rfl (fun Q X hQ => K_X5_areMasks hG hM hB l3 l4 v1.2 rfl hQ) ?_
      refine xw_psh (v := (.int (2))) (show xm_Imp g Γ 42 (xi_psh (.int (2)) 43) from xs_iconst hΓ dX5_mayPush_42 (by decide)) ?_
      obtain ⟨v2, e1, e⟩ := xo_b_s e
      refine xw_mv2 (show xm_Imp g Γ 43 (xi_vir g 4 M_X5_may 1 2 46) from xs_invV hG hΓ k_X5_may rfl (ci := 4) rfl q3003 q3005 qs48 dX5_mayPush_43) rfl (fun Q X hQ => K_X5_may hG hM hB (F_X5_areMasks l3 l4 v1.2) 2 v1.2 e1 hQ) ?_
      refine xw_if (show xm_Imp g Γ 46 (xi_if (fun x => x = 0) 67 49) from xs_if_eq hΓ dX5_mayPush_46 (by decide)) (fun c => ?_) (fun c => ?_)
      · rw [if_pos c] at e
        exact xm_lx (hB_67 _ _ e hp) (trivial)
      · rw [if_neg c] at e
        refine xw_ald (show xm_Imp g Γ 49 (xi_ald 0 50) from xs_aload_n hΓ dX5_mayPush_49) rfl ?_
        refine xw_ald (show xm_Imp g Γ 50 (xi_ald 0 51) from xs_aload_n hΓ dX5_mayPush_50) rfl ?_
        refine xw_ild (show xm_Imp g Γ 51 (xi_ild 1 52) from xs_iload_n hΓ dX5_mayPush_51) rfl ?_
        refine xw_ild (show xm_Imp g Γ 52 (xi_ild 2 53) from xs_iload_n hΓ dX5_mayPush_52) rfl ?_
        obtain ⟨v3, e1, e⟩ := xo_b_s e
        refine xw_mv2 (show xm_Imp g Γ 53 (xi_vir g 4 M_X5_areGates 1 2 56) from xs_invV hG hΓ k_X5_areGates rfl (ci := 4) rfl q3369 q3371 qs103 dX5_mayPush_53) rfl (fun Q X hQ => K_X5_areGates hG hM hB l1 l2 v2.2 e1 hQ) ?_
        refine xw_psh (v := (.int (3))) (show xm_Imp g Γ 56 (xi_psh (.int (3)) 57) from xs_iconst hΓ dX5_mayPush_56 (by decide)) ?_
        obtain ⟨v4, e1, e⟩ := xo_b_s e
        refine xw_mv2 (show xm_Imp g Γ 57 (xi_vir g 4 M_X5_may 1 2 60) from xs_invV hG hΓ k_X5_may rfl (ci := 4) rfl q3003 q3005 qs48 dX5_mayPush_57) rfl (fun Q X hQ => K_X5_may hG hM hB v3 3 v2.2 e1 hQ) ?_
        refine xw_if (show xm_Imp g Γ 60 (xi_if (fun x => x = 0) 67 63) from xs_if_eq hΓ dX5_mayPush_60 (by decide)) (fun c => ?_) (fun c => ?_)
        · rw [if_pos c] at e
          exact xm_lx (hB_67 _ _ e hp) (trivial)
        · rw [if_neg c] at e
          refine xw_psh (v := (.int (1))) (show xm_Imp g Γ 63 (xi_psh (.int (1)) 64) from xs_iconst hΓ dX5_mayPush_63 (by decide)) ?_
          refine xw_goto (show xm_Imp g Γ 64 (xi_goto 68) from xs_goto hΓ dX5_mayPush_64 (by decide)) ?_
          exact xw_iret (show xm_Imp g Γ 68 (xi_iret .boolean _) from xs_ireturn hΓ rfl dX5_mayPush_68) rfl (hP0 _ (xl_fin e hp))
  unfold F_X5_mayPush at e
  refine xw_ald (show xm_Imp g Γ 0 (xi_ald 0 1) from xs_aload_n hΓ dX5_mayPush_0) rfl ?_
  refine xw_ald (show xm_Imp g Γ 1 (xi_ald 0 2) from xs_aload_n hΓ dX5_mayPush_1) rfl ?_
  refine xw_ild (show xm_Imp g Γ 2 (xi_ild 1 3) from xs_iload_n hΓ dX5_mayPush_2) rfl ?_
  refine xw_ild (show xm_Imp g Γ 3 (xi_ild 2 4) from xs_iload_n hΓ dX5_mayPush_3) rfl ?_
  refine xw_mv2 (show xm_Imp g Γ 4 (xi_vir g 4 M_X5_isPiece 1 2 7) from xs_invV hG hΓ k_X5_isPiece rfl (ci := 4) rfl q3365 q3367 qs102 dX5_mayPush_4) rfl (fun Q X hQ => K_X5_isPiece hG hM hB p1 p2 σ rfl hQ) ?_
  refine xw_if (show xm_Imp g Γ 7 (xi_if (fun x => x = 0) 27 10) from xs_if_eq hΓ dX5_mayPush_7 (by decide)) (fun c => ?_) (fun c => ?_)
  · rw [if_pos c] at e
    refine xw_psh (v := (.int (0))) (show xm_Imp g Γ 27 (xi_psh (.int (0)) 28) from xs_iconst hΓ dX5_mayPush_27 (by decide)) ?_
    exact xm_lx (hB_28 _ _ _ _ _ _ _ e hp) (And.intro rfl (And.intro rfl (And.intro rfl (And.intro rfl (And.intro rfl (trivial))))))
  · rw [if_neg c] at e
    refine xw_ild (show xm_Imp g Γ 10 (xi_ild 5 12) from xs_iload hΓ dX5_mayPush_10) rfl ?_
    refine xw_i2l (show xm_Imp g Γ 12 (xi_i2l 13) from xs_i2l hΓ dX5_mayPush_12) ?_
    refine xw_psh (v := (.long 0)) (show xm_Imp g Γ 13 (xi_psh (.long 0) 14) from xs_lconst hΓ dX5_mayPush_13 (by decide)) ?_
    refine xw_psh (v := (.long (2))) (show xm_Imp g Γ 14 (xi_psh (.long (2)) 17) from xs_ldc2 hG hΓ q3292 dX5_mayPush_14) ?_
    refine xw_sv3 (show xm_Imp g Γ 17 (xi_inv g M_X5_isIn 1 3 20) from xs_invS hG hΓ k_X5_isIn rfl q2996 q2997 dX5_mayPush_17) rfl (fun Q X hQ => K_X5_isIn hG p5.toInt64 0 2 rfl hQ) ?_
    refine xw_if (show xm_Imp g Γ 20 (xi_if (fun x => x = 0) 27 23) from xs_if_eq hΓ dX5_mayPush_20 (by decide)) (fun c => ?_) (fun c => ?_)
    · rw [if_pos c] at e
      refine xw_psh (v := (.int (0))) (show xm_Imp g Γ 27 (xi_psh (.int (0)) 28) from xs_iconst hΓ dX5_mayPush_27 (by decide)) ?_
      exact xm_lx (hB_28 _ _ _ _ _ _ _ e hp) (And.intro rfl (And.intro rfl (And.intro rfl (And.intro rfl (And.intro rfl (trivial))))))
    · rw [if_neg c] at e
      refine xw_psh (v := (.int (1))) (show xm_Imp g Γ 23 (xi_psh (.int (1)) 24) from xs_iconst hΓ dX5_mayPush_23 (by decide)) ?_
      refine xw_goto (show xm_Imp g Γ 24 (xi_goto 28) from xs_goto hΓ dX5_mayPush_24 (by decide)) ?_
      exact xm_lx (hB_28 _ _ _ _ _ _ _ e hp) (And.intro rfl (And.intro rfl (And.intro rfl (And.intro rfl (And.intro rfl (trivial))))))
noncomputable def D_X5_pushed_27 (l2 : Int32) (l5 : Int32) (s : Int32 × xM_S) : Option ((Int32 × xM_S) ⊕ (Int32 × xM_S)) :=
 (if l2 ≤ s.1 then
 xl_o (some (((F_X5_out l5 s.2), s.2))) else
 xo_b (xa_ix 60 s.1) (fun j2 =>
 xo_b (xa_ix 60 s.1) (fun j3 =>
 xo_b (xa_ix 60 s.1) (fun j4 =>
 some (Sum.inl (s.1 + 1, (F_X5_does (s.2.2 9 j2) (s.2.2 10 j3) (s.2.2 11 j4) s.2)))))))
noncomputable def L_X5_pushed_27 (l2 : Int32) (l5 : Int32) (s : Int32 × xM_S) : Option (Int32 × xM_S) := xl_loop (D_X5_pushed_27 l2 l5) s
noncomputable def F_X5_pushed (p1 : Int32) (p2 : Int32) (p3 : Int32) (p4 : Int32) (p5 : Int32) (σ : xM_S) : Option (Int32 × xM_S) :=
 xo_b (F_X5_mayPush p1 p2 p3 p4 p5 σ) (fun v1 =>
 (if v1.1 = 0 then
 some ((0, v1.2)) else
 L_X5_pushed_27 p2 p5 (p1, (F_X5_takes p3 p4 0 v1.2))))
set_option maxHeartbeats 4000000 in
theorem K_X5_pushed {g : xm_G} (hG : xm_Gw g) {h0 : xm_H} {m : Nat} {ad : Nat → Nat} (hM : xM_ok h0 m ad) (hB : xk_B g h0) (p1 : Int32) (p2 : Int32) (p3 : Int32) (p4 : Int32) (p5 : Int32) (σ : xM_S) {o : Int32 × xM_S} (e : F_X5_pushed p1 p2 p3 p4 p5 σ = some o) {Q : xm_P} {X : xm_X} (hQ : Q (some (.int o.1)) (xMp h0 m ad o.2)) : xm_Run g M_X5_pushed 5 [.ref m, .int p1, .int p2, .int p3, .int p4, .int p5] (xMp h0 m ad σ) 0 0 Q X := by
  refine xm_Run.of pn_StringTableauModel (Nat.le_of_ble_eq_true rfl) (fun Γ hΓ => ?_)
  obtain ⟨P0, hP0, hp⟩ : ∃ P : Int32 × xM_S → Prop, (∀ o, P o → Q (some (.int o.1)) (xMp h0 m ad o.2)) ∧ P o := ⟨fun o => Q (some (.int o.1)) (xMp h0 m ad o.2), fun _ h => h, hQ⟩
  clear hQ
  show xm_W g Γ 0 [some (.ref m), some (.int p1), some (.int p2), some (.int p3), some (.int p4), some (.int p5), none] [] (xMp h0 m ad σ) 0 0
  have hL_27 : ∀ (l2 : Int32) (l5 : Int32) (s : Int32 × xM_S) (o : Int32 × xM_S), L_X5_pushed_27 l2 l5 s = some o → P0 o → xm_W g Γ 27 [some (.ref m), none, some (.int l2), none, none, some (.int l5), some (.int s.1)] [] (xMp h0 m ad s.2) 0 0 := by
    intro l2 l5
    refine xl_rule (WS := fun s : Int32 × xM_S => xm_W g Γ 27 [some (.ref m), none, some (.int l2), none, none, some (.int l5), some (.int s.1)] [] (xMp h0 m ad s.2) 0 0) ?_
    intro s o e hp
    obtain ⟨P1, hP1, hp⟩ : ∃ P : (Int32 × xM_S) ⊕ (Int32 × xM_S) → Prop, (∀ o, P o → xl_P (fun s : Int32 × xM_S => xm_W g Γ 27 [some (.ref m), none, some (.int l2), none, none, some (.int l5), some (.int s.1)] [] (xMp h0 m ad s.2) 0 0) P0 o) ∧ P o := ⟨_, fun _ h => h, hp⟩
    unfold D_X5_pushed_27 at e
    refine xw_ild (show xm_Imp g Γ 27 (xi_ild 6 29) from xs_iload hΓ dX5_pushed_27) rfl ?_
    refine xw_ild (show xm_Imp g Γ 29 (xi_ild 2 30) from xs_iload_n hΓ dX5_pushed_29) rfl ?_
    refine xw_ic (show xm_Imp g Γ 30 (xi_ic (fun x y => y ≤ x) 64 33) from xs_icmp_ge hΓ dX5_pushed_30 (by decide)) (fun c => ?_) (fun c => ?_)
    · rw [if_pos c] at e
      obtain ⟨_, e, hp⟩ := xl_o_s e (hP1 _ hp)
      refine xw_ald (show xm_Imp g Γ 64 (xi_ald 0 65) from xs_aload_n hΓ dX5_pushed_64) rfl ?_
      refine xw_ild (show xm_Imp g Γ 65 (xi_ild 5 67) from xs_iload hΓ dX5_pushed_65) rfl ?_
      refine xw_mv1 (show xm_Imp g Γ 67 (xi_vir g 4 M_X5_out 1 1 70) from xs_invV hG hΓ k_X5_out rfl (ci := 4) rfl q3337 q3339 qs99 dX5_pushed_67) rfl (fun Q X hQ => K_X5_out hG hM hB l5 s.2 rfl hQ) ?_
      exact xw_iret (show xm_Imp g Γ 70 (xi_iret .int _) from xs_ireturn hΓ rfl dX5_pushed_70) (xn_int _) (hP0 _ (xl_fin e hp))
    · rw [if_neg c] at e
      refine xw_ald (show xm_Imp g Γ 33 (xi_ald 0 34) from xs_aload_n hΓ dX5_pushed_33) rfl ?_
      refine xw_ald (show xm_Imp g Γ 34 (xi_ald 0 35) from xs_aload_n hΓ dX5_pushed_34) rfl ?_
      refine xw_mga (k := 9) (show xm_Imp g Γ 35 (xi_get 4 9 38) from xs_get hG hΓ (ci := 4) (kf := 9) rfl (Nat.le_of_ble_eq_true rfl) q2859 dX5_pushed_35) (fun _ => rfl) ?_
      refine xw_ild (show xm_Imp g Γ 38 (xi_ild 6 40) from xs_iload hΓ dX5_pushed_38) rfl ?_
      obtain ⟨j2, e1, e⟩ := xo_b_s e
      refine xw_mial (k := 9) (v := (s.2.2 9 j2)) (show xm_Imp g Γ 40 (xi_ial 41) from xs_ial hG hΓ dX5_pushed_40) hM (by decide) rfl e1 rfl ?_
      refine xw_ald (show xm_Imp g Γ 41 (xi_ald 0 42) from xs_aload_n hΓ dX5_pushed_41) rfl ?_
      refine xw_mga (k := 10) (show xm_Imp g Γ 42 (xi_get 4 10 45) from xs_get hG hΓ (ci := 4) (kf := 10) rfl (Nat.le_of_ble_eq_true rfl) q2860 dX5_pushed_42) (fun _ => rfl) ?_
      refine xw_ild (show xm_Imp g Γ 45 (xi_ild 6 47) from xs_iload hΓ dX5_pushed_45) rfl ?_
      obtain ⟨j3, e1, e⟩ := xo_b_s e
      refine xw_mial (k := 10) (v := (s.2.2 10 j3)) (show xm_Imp g Γ 47 (xi_ial 48) from xs_ial hG hΓ dX5_pushed_47) hM (by decide) rfl e1 rfl ?_
      refine xw_ald (show xm_Imp g Γ 48 (xi_ald 0 49) from xs_aload_n hΓ dX5_pushed_48) rfl ?_
      refine xw_mga (k := 11) (show xm_Imp g Γ 49 (xi_get 4 11 52) from xs_get hG hΓ (ci := 4) (kf := 11) rfl (Nat.le_of_ble_eq_true rfl) q2861 dX5_pushed_49) (fun _ => rfl) ?_
      refine xw_ild (show xm_Imp g Γ 52 (xi_ild 6 54) from xs_iload hΓ dX5_pushed_52) rfl ?_
      obtain ⟨j4, e1, e⟩ := xo_b_s e
      refine xw_mial (k := 11) (v := (s.2.2 11 j4)) (show xm_Imp g Γ 54 (xi_ial 55) from xs_ial hG hΓ dX5_pushed_54) hM (by decide) rfl e1 rfl ?_
      refine xw_mu3 (show xm_Imp g Γ 55 (xi_vir g 4 M_X5_does 4 3 58) from xs_invV hG hΓ k_X5_does rfl (ci := 4) rfl q3026 q3028 qs53 dX5_pushed_55) rfl (fun Q X hQ => K_X5_does hG hM hB (s.2.2 9 j2) (s.2.2 10 j3) (s.2.2 11 j4) s.2 rfl hQ) ?_
      refine xw_inc (v := (1)) (ls' := [some (.ref m), none, some (.int l2), none, none, some (.int l5), some (.int (s.1 + 1))]) (show xm_Imp g Γ 58 (xi_inc 6 (1) 61) from xs_iinc hΓ dX5_pushed_58 (by decide) (Nat.le_of_ble_eq_true rfl)) rfl rfl ?_
      refine xw_goto (show xm_Imp g Γ 61 (xi_goto 27) from xs_goto hΓ dX5_pushed_61 (by decide)) ?_
      have hq := xl_P_inl (hP1 _ (xl_fin e hp)); exact hq
  unfold F_X5_pushed at e
  refine xw_ald (show xm_Imp g Γ 0 (xi_ald 0 1) from xs_aload_n hΓ dX5_pushed_0) rfl ?_
  refine xw_ild (show xm_Imp g Γ 1 (xi_ild 1 2) from xs_iload_n hΓ dX5_pushed_1) rfl ?_
  refine xw_ild (show xm_Imp g Γ 2 (xi_ild 2 3) from xs_iload_n hΓ dX5_pushed_2) rfl ?_
  refine xw_ild (show xm_Imp g Γ 3 (xi_ild 3 4) from xs_iload_n hΓ dX5_pushed_3) rfl ?_
  refine xw_ild (show xm_Imp g Γ 4 (xi_ild 4 6) from xs_iload hΓ dX5_pushed_4) rfl ?_
  refine xw_ild (show xm_Imp g Γ 6 (xi_ild 5 8) from xs_iload hΓ dX5_pushed_6) rfl ?_
  obtain ⟨v1, e1, e⟩ := xo_b_s e
  refine xw_mv5 (show xm_Imp g Γ 8 (xi_vir g 4 M_X5_mayPush 3 5 11) from xs_invV hG hΓ k_X5_mayPush rfl (ci := 4) rfl q3361 q3363 qs101 dX5_pushed_8) rfl (fun Q X hQ => K_X5_mayPush hG hM hB p1 p2 p3 p4 p5 σ e1 hQ) ?_
  refine xw_if (show xm_Imp g Γ 11 (xi_if (fun x => x = 0) 14 16) from xs_if_ne hΓ dX5_pushed_11 (by decide)) (fun c => ?_) (fun c => ?_)
  · rw [if_pos c] at e
    refine xw_psh (v := (.int (0))) (show xm_Imp g Γ 14 (xi_psh (.int (0)) 15) from xs_iconst hΓ dX5_pushed_14 (by decide)) ?_
    exact xw_iret (show xm_Imp g Γ 15 (xi_iret .int _) from xs_ireturn hΓ rfl dX5_pushed_15) (xn_int _) (hP0 _ (xl_fin e hp))
  · rw [if_neg c] at e
    refine xw_ald (show xm_Imp g Γ 16 (xi_ald 0 17) from xs_aload_n hΓ dX5_pushed_16) rfl ?_
    refine xw_ild (show xm_Imp g Γ 17 (xi_ild 3 18) from xs_iload_n hΓ dX5_pushed_17) rfl ?_
    refine xw_ild (show xm_Imp g Γ 18 (xi_ild 4 20) from xs_iload hΓ dX5_pushed_18) rfl ?_
    refine xw_psh (v := (.int (0))) (show xm_Imp g Γ 20 (xi_psh (.int (0)) 21) from xs_iconst hΓ dX5_pushed_20 (by decide)) ?_
    refine xw_mu3 (show xm_Imp g Γ 21 (xi_vir g 4 M_X5_takes 1 3 24) from xs_invV hG hΓ k_X5_takes rfl (ci := 4) rfl q3022 q3024 qs52 dX5_pushed_21) rfl (fun Q X hQ => K_X5_takes hG hM hB p3 p4 0 v1.2 rfl hQ) ?_
    refine xw_ild (show xm_Imp g Γ 24 (xi_ild 1 25) from xs_iload_n hΓ dX5_pushed_24) rfl ?_
    refine xw_ist (ls' := [some (.ref m), some (.int p1), some (.int p2), some (.int p3), some (.int p4), some (.int p5), some (.int p1)]) (show xm_Imp g Γ 25 (xi_ist 6 27) from xs_istore hΓ dX5_pushed_25 (Nat.le_of_ble_eq_true rfl)) rfl ?_
    exact xm_lx (hL_27 _ _ _ _ e hp) (And.intro rfl (And.intro rfl (And.intro rfl (And.intro rfl (trivial)))))
def B_X5_undoes_20 (l2 : Int32) (l3 : Int32) (s1 : Int32) (σ : xM_S) : xM_S :=
 (F_X5_does s1 l2 l3 σ)
def F_X5_undoes (p1 : Int32) (p2 : Int32) (p3 : Int32) (σ : xM_S) : xM_S :=
 B_X5_undoes_20 p2 p3 (if p1 = 1 then 2 else (if p1 = 2 then 1 else p1)) σ
set_option maxHeartbeats 4000000 in
theorem K_X5_undoes {g : xm_G} (hG : xm_Gw g) {h0 : xm_H} {m : Nat} {ad : Nat → Nat} (hM : xM_ok h0 m ad) (hB : xk_B g h0) (p1 : Int32) (p2 : Int32) (p3 : Int32) (σ : xM_S) {o : xM_S} (e : F_X5_undoes p1 p2 p3 σ = o) {Q : xm_P} {X : xm_X} (hQ : Q none (xMp h0 m ad o)) : xm_Run g M_X5_undoes 5 [.ref m, .int p1, .int p2, .int p3] (xMp h0 m ad σ) 0 0 Q X := by
  refine xm_Run.of pn_StringTableauModel (Nat.le_of_ble_eq_true rfl) (fun Γ hΓ => ?_)
  obtain ⟨P0, hP0, hp⟩ : ∃ P : xM_S → Prop, (∀ o, P o → Q none (xMp h0 m ad o)) ∧ P o := ⟨fun o => Q none (xMp h0 m ad o), fun _ h => h, hQ⟩
  clear hQ
  show xm_W g Γ 0 [some (.ref m), some (.int p1), some (.int p2), some (.int p3)] [] (xMp h0 m ad σ) 0 0
  have hB_20 : ∀ (l2 : Int32) (l3 : Int32) (s1 : Int32) (σ : xM_S) (o : xM_S), B_X5_undoes_20 l2 l3 s1 σ = o → P0 o → xm_W g Γ 20 [none, none, some (.int l2), some (.int l3)] [.int s1, .ref m] (xMp h0 m ad σ) 0 0 := by
    intro l2 l3 s1 σ o e hp
    unfold B_X5_undoes_20 at e
    refine xw_ild (show xm_Imp g Γ 20 (xi_ild 2 21) from xs_iload_n hΓ dX5_undoes_20) rfl ?_
    refine xw_ild (show xm_Imp g Γ 21 (xi_ild 3 22) from xs_iload_n hΓ dX5_undoes_21) rfl ?_
    refine xw_mu3 (show xm_Imp g Γ 22 (xi_vir g 4 M_X5_does 4 3 25) from xs_invV hG hΓ k_X5_does rfl (ci := 4) rfl q3026 q3028 qs53 dX5_undoes_22) rfl (fun Q X hQ => K_X5_does hG hM hB s1 l2 l3 σ rfl hQ) ?_
    exact xw_vret (show xm_Imp g Γ 25 (xi_vret _) from xs_return hΓ rfl dX5_undoes_25) (hP0 _ (xl_finV e hp))
  unfold F_X5_undoes at e
  refine xw_ald (show xm_Imp g Γ 0 (xi_ald 0 1) from xs_aload_n hΓ dX5_undoes_0) rfl ?_
  refine xw_ild (show xm_Imp g Γ 1 (xi_ild 1 2) from xs_iload_n hΓ dX5_undoes_1) rfl ?_
  refine xw_psh (v := (.int (1))) (show xm_Imp g Γ 2 (xi_psh (.int (1)) 3) from xs_iconst hΓ dX5_undoes_2 (by decide)) ?_
  refine xw_ic (show xm_Imp g Γ 3 (xi_ic (fun x y => x = y) 6 10) from xs_icmp_ne hΓ dX5_undoes_3 (by decide)) (fun c => ?_) (fun c => ?_)
  · rw [if_pos c] at e
    refine xw_psh (v := (.int (2))) (show xm_Imp g Γ 6 (xi_psh (.int (2)) 7) from xs_iconst hΓ dX5_undoes_6 (by decide)) ?_
    refine xw_goto (show xm_Imp g Γ 7 (xi_goto 20) from xs_goto hΓ dX5_undoes_7 (by decide)) ?_
    exact xm_lx (hB_20 _ _ _ _ _ e hp) (And.intro rfl (And.intro rfl (trivial)))
  · rw [if_neg c] at e
    refine xw_ild (show xm_Imp g Γ 10 (xi_ild 1 11) from xs_iload_n hΓ dX5_undoes_10) rfl ?_
    refine xw_psh (v := (.int (2))) (show xm_Imp g Γ 11 (xi_psh (.int (2)) 12) from xs_iconst hΓ dX5_undoes_11 (by decide)) ?_
    refine xw_ic (show xm_Imp g Γ 12 (xi_ic (fun x y => x = y) 15 19) from xs_icmp_ne hΓ dX5_undoes_12 (by decide)) (fun c => ?_) (fun c => ?_)
    · rw [if_pos c] at e
      refine xw_psh (v := (.int (1))) (show xm_Imp g Γ 15 (xi_psh (.int (1)) 16) from xs_iconst hΓ dX5_undoes_15 (by decide)) ?_
      refine xw_goto (show xm_Imp g Γ 16 (xi_goto 20) from xs_goto hΓ dX5_undoes_16 (by decide)) ?_
      exact xm_lx (hB_20 _ _ _ _ _ e hp) (And.intro rfl (And.intro rfl (trivial)))
    · rw [if_neg c] at e
      refine xw_ild (show xm_Imp g Γ 19 (xi_ild 1 20) from xs_iload_n hΓ dX5_undoes_19) rfl ?_
      exact xm_lx (hB_20 _ _ _ _ _ e hp) (And.intro rfl (And.intro rfl (trivial)))
noncomputable def D_X5_pulled_29 (l1 : Int32) (l5 : Int32) (s : Int32 × xM_S) : Option ((Int32 × xM_S) ⊕ (Int32 × xM_S)) :=
 (if s.1 < l1 then
 xl_o (some (((F_X5_out l5 s.2), s.2))) else
 xo_b (xa_ix 60 s.1) (fun j2 =>
 xo_b (xa_ix 60 s.1) (fun j3 =>
 xo_b (xa_ix 60 s.1) (fun j4 =>
 some (Sum.inl (s.1 + (-1), (F_X5_undoes (s.2.2 9 j2) (s.2.2 10 j3) (s.2.2 11 j4) s.2)))))))
noncomputable def L_X5_pulled_29 (l1 : Int32) (l5 : Int32) (s : Int32 × xM_S) : Option (Int32 × xM_S) := xl_loop (D_X5_pulled_29 l1 l5) s
noncomputable def F_X5_pulled (p1 : Int32) (p2 : Int32) (p3 : Int32) (p4 : Int32) (p5 : Int32) (σ : xM_S) : Option (Int32 × xM_S) :=
 xo_b (F_X5_mayPush p1 p2 p3 p4 p5 σ) (fun v1 =>
 (if v1.1 = 0 then
 some ((0, v1.2)) else
 L_X5_pulled_29 p1 p5 (p2 - 1, (F_X5_takes p3 p4 0 v1.2))))
set_option maxHeartbeats 4000000 in
theorem K_X5_pulled {g : xm_G} (hG : xm_Gw g) {h0 : xm_H} {m : Nat} {ad : Nat → Nat} (hM : xM_ok h0 m ad) (hB : xk_B g h0) (p1 : Int32) (p2 : Int32) (p3 : Int32) (p4 : Int32) (p5 : Int32) (σ : xM_S) {o : Int32 × xM_S} (e : F_X5_pulled p1 p2 p3 p4 p5 σ = some o) {Q : xm_P} {X : xm_X} (hQ : Q (some (.int o.1)) (xMp h0 m ad o.2)) : xm_Run g M_X5_pulled 6 [.ref m, .int p1, .int p2, .int p3, .int p4, .int p5] (xMp h0 m ad σ) 0 0 Q X := by
  refine xm_Run.of pn_StringTableauModel (Nat.le_of_ble_eq_true rfl) (fun Γ hΓ => ?_)
  obtain ⟨P0, hP0, hp⟩ : ∃ P : Int32 × xM_S → Prop, (∀ o, P o → Q (some (.int o.1)) (xMp h0 m ad o.2)) ∧ P o := ⟨fun o => Q (some (.int o.1)) (xMp h0 m ad o.2), fun _ h => h, hQ⟩
  clear hQ
  show xm_W g Γ 0 [some (.ref m), some (.int p1), some (.int p2), some (.int p3), some (.int p4), some (.int p5), none] [] (xMp h0 m ad σ) 0 0
  have hL_29 : ∀ (l1 : Int32) (l5 : Int32) (s : Int32 × xM_S) (o : Int32 × xM_S), L_X5_pulled_29 l1 l5 s = some o → P0 o → xm_W g Γ 29 [some (.ref m), some (.int l1), none, none, none, some (.int l5), some (.int s.1)] [] (xMp h0 m ad s.2) 0 0 := by
    intro l1 l5
    refine xl_rule (WS := fun s : Int32 × xM_S => xm_W g Γ 29 [some (.ref m), some (.int l1), none, none, none, some (.int l5), some (.int s.1)] [] (xMp h0 m ad s.2) 0 0) ?_
    intro s o e hp
    obtain ⟨P1, hP1, hp⟩ : ∃ P : (Int32 × xM_S) ⊕ (Int32 × xM_S) → Prop, (∀ o, P o → xl_P (fun s : Int32 × xM_S => xm_W g Γ 29 [some (.ref m), some (.int l1), none, none, none, some (.int l5), some (.int s.1)] [] (xMp h0 m ad s.2) 0 0) P0 o) ∧ P o := ⟨_, fun _ h => h, hp⟩
    unfold D_X5_pulled_29 at e
    refine xw_ild (show xm_Imp g Γ 29 (xi_ild 6 31) from xs_iload hΓ dX5_pulled_29) rfl ?_
    refine xw_ild (show xm_Imp g Γ 31 (xi_ild 1 32) from xs_iload_n hΓ dX5_pulled_31) rfl ?_
    refine xw_ic (show xm_Imp g Γ 32 (xi_ic (fun x y => x < y) 66 35) from xs_icmp_lt hΓ dX5_pulled_32 (by decide)) (fun c => ?_) (fun c => ?_)
    · rw [if_pos c] at e
      obtain ⟨_, e, hp⟩ := xl_o_s e (hP1 _ hp)
      refine xw_ald (show xm_Imp g Γ 66 (xi_ald 0 67) from xs_aload_n hΓ dX5_pulled_66) rfl ?_
      refine xw_ild (show xm_Imp g Γ 67 (xi_ild 5 69) from xs_iload hΓ dX5_pulled_67) rfl ?_
      refine xw_mv1 (show xm_Imp g Γ 69 (xi_vir g 4 M_X5_out 1 1 72) from xs_invV hG hΓ k_X5_out rfl (ci := 4) rfl q3337 q3339 qs99 dX5_pulled_69) rfl (fun Q X hQ => K_X5_out hG hM hB l5 s.2 rfl hQ) ?_
      exact xw_iret (show xm_Imp g Γ 72 (xi_iret .int _) from xs_ireturn hΓ rfl dX5_pulled_72) (xn_int _) (hP0 _ (xl_fin e hp))
    · rw [if_neg c] at e
      refine xw_ald (show xm_Imp g Γ 35 (xi_ald 0 36) from xs_aload_n hΓ dX5_pulled_35) rfl ?_
      refine xw_ald (show xm_Imp g Γ 36 (xi_ald 0 37) from xs_aload_n hΓ dX5_pulled_36) rfl ?_
      refine xw_mga (k := 9) (show xm_Imp g Γ 37 (xi_get 4 9 40) from xs_get hG hΓ (ci := 4) (kf := 9) rfl (Nat.le_of_ble_eq_true rfl) q2859 dX5_pulled_37) (fun _ => rfl) ?_
      refine xw_ild (show xm_Imp g Γ 40 (xi_ild 6 42) from xs_iload hΓ dX5_pulled_40) rfl ?_
      obtain ⟨j2, e1, e⟩ := xo_b_s e
      refine xw_mial (k := 9) (v := (s.2.2 9 j2)) (show xm_Imp g Γ 42 (xi_ial 43) from xs_ial hG hΓ dX5_pulled_42) hM (by decide) rfl e1 rfl ?_
      refine xw_ald (show xm_Imp g Γ 43 (xi_ald 0 44) from xs_aload_n hΓ dX5_pulled_43) rfl ?_
      refine xw_mga (k := 10) (show xm_Imp g Γ 44 (xi_get 4 10 47) from xs_get hG hΓ (ci := 4) (kf := 10) rfl (Nat.le_of_ble_eq_true rfl) q2860 dX5_pulled_44) (fun _ => rfl) ?_
      refine xw_ild (show xm_Imp g Γ 47 (xi_ild 6 49) from xs_iload hΓ dX5_pulled_47) rfl ?_
      obtain ⟨j3, e1, e⟩ := xo_b_s e
      refine xw_mial (k := 10) (v := (s.2.2 10 j3)) (show xm_Imp g Γ 49 (xi_ial 50) from xs_ial hG hΓ dX5_pulled_49) hM (by decide) rfl e1 rfl ?_
      refine xw_ald (show xm_Imp g Γ 50 (xi_ald 0 51) from xs_aload_n hΓ dX5_pulled_50) rfl ?_
      refine xw_mga (k := 11) (show xm_Imp g Γ 51 (xi_get 4 11 54) from xs_get hG hΓ (ci := 4) (kf := 11) rfl (Nat.le_of_ble_eq_true rfl) q2861 dX5_pulled_51) (fun _ => rfl) ?_
      refine xw_ild (show xm_Imp g Γ 54 (xi_ild 6 56) from xs_iload hΓ dX5_pulled_54) rfl ?_
      obtain ⟨j4, e1, e⟩ := xo_b_s e
      refine xw_mial (k := 11) (v := (s.2.2 11 j4)) (show xm_Imp g Γ 56 (xi_ial 57) from xs_ial hG hΓ dX5_pulled_56) hM (by decide) rfl e1 rfl ?_
      refine xw_mu3 (show xm_Imp g Γ 57 (xi_vir g 4 M_X5_undoes 5 3 60) from xs_invV hG hΓ k_X5_undoes rfl (ci := 4) rfl q3377 q3379 qs104 dX5_pulled_57) rfl (fun Q X hQ => K_X5_undoes hG hM hB (s.2.2 9 j2) (s.2.2 10 j3) (s.2.2 11 j4) s.2 rfl hQ) ?_
      refine xw_inc (v := (-1)) (ls' := [some (.ref m), some (.int l1), none, none, none, some (.int l5), some (.int (s.1 + (-1)))]) (show xm_Imp g Γ 60 (xi_inc 6 (-1) 63) from xs_iinc hΓ dX5_pulled_60 (by decide) (Nat.le_of_ble_eq_true rfl)) rfl rfl ?_
      refine xw_goto (show xm_Imp g Γ 63 (xi_goto 29) from xs_goto hΓ dX5_pulled_63 (by decide)) ?_
      have hq := xl_P_inl (hP1 _ (xl_fin e hp)); exact hq
  unfold F_X5_pulled at e
  refine xw_ald (show xm_Imp g Γ 0 (xi_ald 0 1) from xs_aload_n hΓ dX5_pulled_0) rfl ?_
  refine xw_ild (show xm_Imp g Γ 1 (xi_ild 1 2) from xs_iload_n hΓ dX5_pulled_1) rfl ?_
  refine xw_ild (show xm_Imp g Γ 2 (xi_ild 2 3) from xs_iload_n hΓ dX5_pulled_2) rfl ?_
  refine xw_ild (show xm_Imp g Γ 3 (xi_ild 3 4) from xs_iload_n hΓ dX5_pulled_3) rfl ?_
  refine xw_ild (show xm_Imp g Γ 4 (xi_ild 4 6) from xs_iload hΓ dX5_pulled_4) rfl ?_
  refine xw_ild (show xm_Imp g Γ 6 (xi_ild 5 8) from xs_iload hΓ dX5_pulled_6) rfl ?_
  obtain ⟨v1, e1, e⟩ := xo_b_s e
  refine xw_mv5 (show xm_Imp g Γ 8 (xi_vir g 4 M_X5_mayPush 3 5 11) from xs_invV hG hΓ k_X5_mayPush rfl (ci := 4) rfl q3361 q3363 qs101 dX5_pulled_8) rfl (fun Q X hQ => K_X5_mayPush hG hM hB p1 p2 p3 p4 p5 σ e1 hQ) ?_
  refine xw_if (show xm_Imp g Γ 11 (xi_if (fun x => x = 0) 14 16) from xs_if_ne hΓ dX5_pulled_11 (by decide)) (fun c => ?_) (fun c => ?_)
  · rw [if_pos c] at e
    refine xw_psh (v := (.int (0))) (show xm_Imp g Γ 14 (xi_psh (.int (0)) 15) from xs_iconst hΓ dX5_pulled_14 (by decide)) ?_
    exact xw_iret (show xm_Imp g Γ 15 (xi_iret .int _) from xs_ireturn hΓ rfl dX5_pulled_15) (xn_int _) (hP0 _ (xl_fin e hp))
  · rw [if_neg c] at e
    refine xw_ald (show xm_Imp g Γ 16 (xi_ald 0 17) from xs_aload_n hΓ dX5_pulled_16) rfl ?_
    refine xw_ild (show xm_Imp g Γ 17 (xi_ild 3 18) from xs_iload_n hΓ dX5_pulled_17) rfl ?_
    refine xw_ild (show xm_Imp g Γ 18 (xi_ild 4 20) from xs_iload hΓ dX5_pulled_18) rfl ?_
    refine xw_psh (v := (.int (0))) (show xm_Imp g Γ 20 (xi_psh (.int (0)) 21) from xs_iconst hΓ dX5_pulled_20 (by decide)) ?_
    refine xw_mu3 (show xm_Imp g Γ 21 (xi_vir g 4 M_X5_takes 1 3 24) from xs_invV hG hΓ k_X5_takes rfl (ci := 4) rfl q3022 q3024 qs52 dX5_pulled_21) rfl (fun Q X hQ => K_X5_takes hG hM hB p3 p4 0 v1.2 rfl hQ) ?_
    refine xw_ild (show xm_Imp g Γ 24 (xi_ild 2 25) from xs_iload_n hΓ dX5_pulled_24) rfl ?_
    refine xw_psh (v := (.int (1))) (show xm_Imp g Γ 25 (xi_psh (.int (1)) 26) from xs_iconst hΓ dX5_pulled_25 (by decide)) ?_
    refine xw_ii (show xm_Imp g Γ 26 (xi_ii (fun x y => x - y) 27) from xs_isub hΓ dX5_pulled_26) ?_
    refine xw_ist (ls' := [some (.ref m), some (.int p1), some (.int p2), some (.int p3), some (.int p4), some (.int p5), some (.int (p2 - 1))]) (show xm_Imp g Γ 27 (xi_ist 6 29) from xs_istore hΓ dX5_pulled_27 (Nat.le_of_ble_eq_true rfl)) rfl ?_
    exact xm_lx (hL_29 _ _ _ _ e hp) (And.intro rfl (And.intro rfl (And.intro rfl (And.intro rfl (trivial)))))
noncomputable def D_X5_partner_45 (l1 : Int32) (l2 : Int32) (l3 : Int32) (σ : xM_S) (s : Int32) : Option ((Int32) ⊕ ((Int32) ⊕ (Int32 × xM_S))) :=
 (if (F_X5_sets σ) ≤ s then
 xl_o (some (Sum.inl (l3 + 1))) else
 xo_b (F_X5_againstOf l3 s σ) (fun v2 =>
 (if v2 = (1 <<< (l1 &&& 31)) then
 xl_o (xl_o ((if l2 = 0 then
 some ((l3, σ)) else
 some ((s, σ))))) else
 some (Sum.inl (s + 1)))))
noncomputable def L_X5_partner_45 (l1 : Int32) (l2 : Int32) (l3 : Int32) (σ : xM_S) (s : Int32) : Option ((Int32) ⊕ (Int32 × xM_S)) := xl_loop (D_X5_partner_45 l1 l2 l3 σ) s
noncomputable def D_X5_partner_34 (l1 : Int32) (l2 : Int32) (σ : xM_S) (s : Int32) : Option ((Int32) ⊕ (Int32 × xM_S)) :=
 (if (F_X5_sets σ) ≤ s then
 xl_o (some (((-1), σ))) else
 L_X5_partner_45 l1 l2 s σ 0)
noncomputable def L_X5_partner_34 (l1 : Int32) (l2 : Int32) (σ : xM_S) (s : Int32) : Option (Int32 × xM_S) := xl_loop (D_X5_partner_34 l1 l2 σ) s
noncomputable def B_X5_partner_24 (l1 : Int32) (l2 : Int32) (s1 : Int32) (σ : xM_S) : Option (Int32 × xM_S) :=
 xo_b (F_X5_is s1 σ) (fun v1 =>
 (if v1.1 = 0 then
 some ((0, v1.2)) else
 L_X5_partner_34 l1 l2 v1.2 0))
noncomputable def F_X5_partner (p1 : Int32) (p2 : Int32) (σ : xM_S) : Option (Int32 × xM_S) :=
 B_X5_partner_24 p1 p2 (if (F_X5_isRow p1 σ) = 0 then 0 else (if (F_X5_isIn p2.toInt64 0 1) = 0 then 0 else 1)) σ
set_option maxHeartbeats 4000000 in
theorem K_X5_partner {g : xm_G} (hG : xm_Gw g) {h0 : xm_H} {m : Nat} {ad : Nat → Nat} (hM : xM_ok h0 m ad) (hB : xk_B g h0) (p1 : Int32) (p2 : Int32) (σ : xM_S) {o : Int32 × xM_S} (e : F_X5_partner p1 p2 σ = some o) {Q : xm_P} {X : xm_X} (hQ : Q (some (.int o.1)) (xMp h0 m ad o.2)) : xm_Run g M_X5_partner 5 [.ref m, .int p1, .int p2] (xMp h0 m ad σ) 0 0 Q X := by
  refine xm_Run.of pn_StringTableauModel (Nat.le_of_ble_eq_true rfl) (fun Γ hΓ => ?_)
  obtain ⟨P0, hP0, hp⟩ : ∃ P : Int32 × xM_S → Prop, (∀ o, P o → Q (some (.int o.1)) (xMp h0 m ad o.2)) ∧ P o := ⟨fun o => Q (some (.int o.1)) (xMp h0 m ad o.2), fun _ h => h, hQ⟩
  clear hQ
  show xm_W g Γ 0 [some (.ref m), some (.int p1), some (.int p2), none, none] [] (xMp h0 m ad σ) 0 0
  have hL_34 : ∀ (l1 : Int32) (l2 : Int32) (σ : xM_S) (s : Int32) (o : Int32 × xM_S), L_X5_partner_34 l1 l2 σ s = some o → P0 o → xm_W g Γ 34 [some (.ref m), some (.int l1), some (.int l2), some (.int s), none] [] (xMp h0 m ad σ) 0 0 := by
    intro l1 l2 σ
    refine xl_rule (WS := fun s : Int32 => xm_W g Γ 34 [some (.ref m), some (.int l1), some (.int l2), some (.int s), none] [] (xMp h0 m ad σ) 0 0) ?_
    intro s o e hp
    obtain ⟨P1, hP1, hp⟩ : ∃ P : (Int32) ⊕ (Int32 × xM_S) → Prop, (∀ o, P o → xl_P (fun s : Int32 => xm_W g Γ 34 [some (.ref m), some (.int l1), some (.int l2), some (.int s), none] [] (xMp h0 m ad σ) 0 0) P0 o) ∧ P o := ⟨_, fun _ h => h, hp⟩
    have hL_45 : ∀ (l3 : Int32) (s : Int32) (o : (Int32) ⊕ (Int32 × xM_S)), L_X5_partner_45 l1 l2 l3 σ s = some o → P1 o → xm_W g Γ 45 [some (.ref m), some (.int l1), some (.int l2), some (.int l3), some (.int s)] [] (xMp h0 m ad σ) 0 0 := by
      intro l3
      refine xl_rule (WS := fun s : Int32 => xm_W g Γ 45 [some (.ref m), some (.int l1), some (.int l2), some (.int l3), some (.int s)] [] (xMp h0 m ad σ) 0 0) ?_
      intro s o e hp
      obtain ⟨P2, hP2, hp⟩ : ∃ P : (Int32) ⊕ ((Int32) ⊕ (Int32 × xM_S)) → Prop, (∀ o, P o → xl_P (fun s : Int32 => xm_W g Γ 45 [some (.ref m), some (.int l1), some (.int l2), some (.int l3), some (.int s)] [] (xMp h0 m ad σ) 0 0) P1 o) ∧ P o := ⟨_, fun _ h => h, hp⟩
      unfold D_X5_partner_45 at e
      refine xw_ild (show xm_Imp g Γ 45 (xi_ild 4 47) from xs_iload hΓ dX5_partner_45) rfl ?_
      refine xw_ald (show xm_Imp g Γ 47 (xi_ald 0 48) from xs_aload_n hΓ dX5_partner_47) rfl ?_
      refine xw_mv0 (show xm_Imp g Γ 48 (xi_vir g 4 M_X5_sets 1 0 51) from xs_invV hG hΓ k_X5_sets rfl (ci := 4) rfl q3073 q3075 qs61 dX5_partner_48) rfl (fun Q X hQ => K_X5_sets hG hM hB σ rfl hQ) ?_
      refine xw_ic (show xm_Imp g Γ 51 (xi_ic (fun x y => y ≤ x) 84 54) from xs_icmp_ge hΓ dX5_partner_51 (by decide)) (fun c => ?_) (fun c => ?_)
      · rw [if_pos c] at e
        obtain ⟨_, e, hp⟩ := xl_o_s e (hP2 _ hp)
        refine xw_inc (v := (1)) (ls' := [some (.ref m), some (.int l1), some (.int l2), some (.int (l3 + 1)), some (.int s)]) (show xm_Imp g Γ 84 (xi_inc 3 (1) 87) from xs_iinc hΓ dX5_partner_84 (by decide) (Nat.le_of_ble_eq_true rfl)) rfl rfl ?_
        refine xw_goto (show xm_Imp g Γ 87 (xi_goto 34) from xs_goto hΓ dX5_partner_87 (by decide)) ?_
        have hq := xl_P_inl (hP1 _ (xl_fin e hp)); exact xm_lx (hq) (And.intro rfl (And.intro rfl (And.intro rfl (And.intro rfl (trivial)))))
      · rw [if_neg c] at e
        refine xw_ald (show xm_Imp g Γ 54 (xi_ald 0 55) from xs_aload_n hΓ dX5_partner_54) rfl ?_
        refine xw_ild (show xm_Imp g Γ 55 (xi_ild 3 56) from xs_iload_n hΓ dX5_partner_55) rfl ?_
        refine xw_ild (show xm_Imp g Γ 56 (xi_ild 4 58) from xs_iload hΓ dX5_partner_56) rfl ?_
        obtain ⟨v2, e1, e⟩ := xo_b_s e
        refine xw_mv2 (show xm_Imp g Γ 58 (xi_vir g 4 M_X5_againstOf 4 2 61) from xs_invV hG hΓ k_X5_againstOf rfl (ci := 4) rfl q3086 q3088 qs64 dX5_partner_58) rfl (fun Q X hQ => K_X5_againstOf hG hM hB l3 s σ e1 hQ) ?_
        refine xw_psh (v := (.int (1))) (show xm_Imp g Γ 61 (xi_psh (.int (1)) 62) from xs_iconst hΓ dX5_partner_61 (by decide)) ?_
        refine xw_ild (show xm_Imp g Γ 62 (xi_ild 1 63) from xs_iload_n hΓ dX5_partner_62) rfl ?_
        refine xw_ii (show xm_Imp g Γ 63 (xi_ii (fun x y => x <<< (y &&& 31)) 64) from xs_ishl hΓ dX5_partner_63) ?_
        refine xw_ic (show xm_Imp g Γ 64 (xi_ic (fun x y => x = y) 67 78) from xs_icmp_ne hΓ dX5_partner_64 (by decide)) (fun c => ?_) (fun c => ?_)
        · rw [if_pos c] at e
          obtain ⟨_, e, hp⟩ := xl_o_s e (hP2 _ hp)
          obtain ⟨_, e, hp⟩ := xl_o_s e (hP1 _ hp)
          refine xw_ild (show xm_Imp g Γ 67 (xi_ild 2 68) from xs_iload_n hΓ dX5_partner_67) rfl ?_
          refine xw_if (show xm_Imp g Γ 68 (xi_if (fun x => x = 0) 71 75) from xs_if_ne hΓ dX5_partner_68 (by decide)) (fun c => ?_) (fun c => ?_)
          · rw [if_pos c] at e
            refine xw_ild (show xm_Imp g Γ 71 (xi_ild 3 72) from xs_iload_n hΓ dX5_partner_71) rfl ?_
            refine xw_goto (show xm_Imp g Γ 72 (xi_goto 77) from xs_goto hΓ dX5_partner_72 (by decide)) ?_
            exact xw_iret (show xm_Imp g Γ 77 (xi_iret .int _) from xs_ireturn hΓ rfl dX5_partner_77) (xn_int _) (hP0 _ (xl_fin e hp))
          · rw [if_neg c] at e
            refine xw_ild (show xm_Imp g Γ 75 (xi_ild 4 77) from xs_iload hΓ dX5_partner_75) rfl ?_
            exact xw_iret (show xm_Imp g Γ 77 (xi_iret .int _) from xs_ireturn hΓ rfl dX5_partner_77) (xn_int _) (hP0 _ (xl_fin e hp))
        · rw [if_neg c] at e
          refine xw_inc (v := (1)) (ls' := [some (.ref m), some (.int l1), some (.int l2), some (.int l3), some (.int (s + 1))]) (show xm_Imp g Γ 78 (xi_inc 4 (1) 81) from xs_iinc hΓ dX5_partner_78 (by decide) (Nat.le_of_ble_eq_true rfl)) rfl rfl ?_
          refine xw_goto (show xm_Imp g Γ 81 (xi_goto 45) from xs_goto hΓ dX5_partner_81 (by decide)) ?_
          have hq := xl_P_inl (hP2 _ (xl_fin e hp)); exact hq
    unfold D_X5_partner_34 at e
    refine xw_ild (show xm_Imp g Γ 34 (xi_ild 3 35) from xs_iload_n hΓ dX5_partner_34) rfl ?_
    refine xw_ald (show xm_Imp g Γ 35 (xi_ald 0 36) from xs_aload_n hΓ dX5_partner_35) rfl ?_
    refine xw_mv0 (show xm_Imp g Γ 36 (xi_vir g 4 M_X5_sets 1 0 39) from xs_invV hG hΓ k_X5_sets rfl (ci := 4) rfl q3073 q3075 qs61 dX5_partner_36) rfl (fun Q X hQ => K_X5_sets hG hM hB σ rfl hQ) ?_
    refine xw_ic (show xm_Imp g Γ 39 (xi_ic (fun x y => y ≤ x) 90 42) from xs_icmp_ge hΓ dX5_partner_39 (by decide)) (fun c => ?_) (fun c => ?_)
    · rw [if_pos c] at e
      obtain ⟨_, e, hp⟩ := xl_o_s e (hP1 _ hp)
      refine xw_psh (v := (.int (-1))) (show xm_Imp g Γ 90 (xi_psh (.int (-1)) 91) from xs_iconst hΓ dX5_partner_90 (by decide)) ?_
      exact xw_iret (show xm_Imp g Γ 91 (xi_iret .int _) from xs_ireturn hΓ rfl dX5_partner_91) (xn_int _) (hP0 _ (xl_fin e hp))
    · rw [if_neg c] at e
      refine xw_psh (v := (.int (0))) (show xm_Imp g Γ 42 (xi_psh (.int (0)) 43) from xs_iconst hΓ dX5_partner_42 (by decide)) ?_
      refine xw_ist (ls' := [some (.ref m), some (.int l1), some (.int l2), some (.int s), some (.int 0)]) (show xm_Imp g Γ 43 (xi_ist 4 45) from xs_istore hΓ dX5_partner_43 (Nat.le_of_ble_eq_true rfl)) rfl ?_
      exact hL_45 _ _ _ e hp
  have hB_24 : ∀ (l1 : Int32) (l2 : Int32) (s1 : Int32) (σ : xM_S) (o : Int32 × xM_S), B_X5_partner_24 l1 l2 s1 σ = some o → P0 o → xm_W g Γ 24 [some (.ref m), some (.int l1), some (.int l2), none, none] [.int s1, .ref m] (xMp h0 m ad σ) 0 0 := by
    intro l1 l2 s1 σ o e hp
    unfold B_X5_partner_24 at e
    obtain ⟨v1, e1, e⟩ := xo_b_s e
    refine xw_mv1 (show xm_Imp g Γ 24 (xi_vir g 4 M_X5_is 1 1 27) from xs_invV hG hΓ k_X5_is rfl (ci := 4) rfl q2986 q2988 qs46 dX5_partner_24) rfl (fun Q X hQ => K_X5_is hG hM hB s1 σ e1 hQ) ?_
    refine xw_if (show xm_Imp g Γ 27 (xi_if (fun x => x = 0) 30 32) from xs_if_ne hΓ dX5_partner_27 (by decide)) (fun c => ?_) (fun c => ?_)
    · rw [if_pos c] at e
      refine xw_psh (v := (.int (0))) (show xm_Imp g Γ 30 (xi_psh (.int (0)) 31) from xs_iconst hΓ dX5_partner_30 (by decide)) ?_
      exact xw_iret (show xm_Imp g Γ 31 (xi_iret .int _) from xs_ireturn hΓ rfl dX5_partner_31) (xn_int _) (hP0 _ (xl_fin e hp))
    · rw [if_neg c] at e
      refine xw_psh (v := (.int (0))) (show xm_Imp g Γ 32 (xi_psh (.int (0)) 33) from xs_iconst hΓ dX5_partner_32 (by decide)) ?_
      refine xw_ist (ls' := [some (.ref m), some (.int l1), some (.int l2), some (.int 0), none]) (show xm_Imp g Γ 33 (xi_ist 3 34) from xs_istore_n hΓ dX5_partner_33 (Nat.le_of_ble_eq_true rfl)) rfl ?_
      exact hL_34 _ _ _ _ _ e hp
  unfold F_X5_partner at e
  refine xw_ald (show xm_Imp g Γ 0 (xi_ald 0 1) from xs_aload_n hΓ dX5_partner_0) rfl ?_
  refine xw_ald (show xm_Imp g Γ 1 (xi_ald 0 2) from xs_aload_n hΓ dX5_partner_1) rfl ?_
  refine xw_ild (show xm_Imp g Γ 2 (xi_ild 1 3) from xs_iload_n hΓ dX5_partner_2) rfl ?_
  refine xw_mv1 (show xm_Imp g Γ 3 (xi_vir g 4 M_X5_isRow 2 1 6) from xs_invV hG hΓ k_X5_isRow rfl (ci := 4) rfl q3288 q3290 qs96 dX5_partner_3) rfl (fun Q X hQ => K_X5_isRow hG hM hB p1 σ rfl hQ) ?_
  refine xw_if (show xm_Imp g Γ 6 (xi_if (fun x => x = 0) 23 9) from xs_if_eq hΓ dX5_partner_6 (by decide)) (fun c => ?_) (fun c => ?_)
  · rw [if_pos c] at e
    refine xw_psh (v := (.int (0))) (show xm_Imp g Γ 23 (xi_psh (.int (0)) 24) from xs_iconst hΓ dX5_partner_23 (by decide)) ?_
    exact hB_24 _ _ _ _ _ e hp
  · rw [if_neg c] at e
    refine xw_ild (show xm_Imp g Γ 9 (xi_ild 2 10) from xs_iload_n hΓ dX5_partner_9) rfl ?_
    refine xw_i2l (show xm_Imp g Γ 10 (xi_i2l 11) from xs_i2l hΓ dX5_partner_10) ?_
    refine xw_psh (v := (.long 0)) (show xm_Imp g Γ 11 (xi_psh (.long 0) 12) from xs_lconst hΓ dX5_partner_11 (by decide)) ?_
    refine xw_psh (v := (.long 1)) (show xm_Imp g Γ 12 (xi_psh (.long 1) 13) from xs_lconst hΓ dX5_partner_12 (by decide)) ?_
    refine xw_sv3 (show xm_Imp g Γ 13 (xi_inv g M_X5_isIn 1 3 16) from xs_invS hG hΓ k_X5_isIn rfl q2996 q2997 dX5_partner_13) rfl (fun Q X hQ => K_X5_isIn hG p2.toInt64 0 1 rfl hQ) ?_
    refine xw_if (show xm_Imp g Γ 16 (xi_if (fun x => x = 0) 23 19) from xs_if_eq hΓ dX5_partner_16 (by decide)) (fun c => ?_) (fun c => ?_)
    · rw [if_pos c] at e
      refine xw_psh (v := (.int (0))) (show xm_Imp g Γ 23 (xi_psh (.int (0)) 24) from xs_iconst hΓ dX5_partner_23 (by decide)) ?_
      exact hB_24 _ _ _ _ _ e hp
    · rw [if_neg c] at e
      refine xw_psh (v := (.int (1))) (show xm_Imp g Γ 19 (xi_psh (.int (1)) 20) from xs_iconst hΓ dX5_partner_19 (by decide)) ?_
      refine xw_goto (show xm_Imp g Γ 20 (xi_goto 24) from xs_goto hΓ dX5_partner_20 (by decide)) ?_
      exact hB_24 _ _ _ _ _ e hp
noncomputable def D_X5_laysSupports_2  (s : Int32 × xM_S) : Option ((Int32 × xM_S) ⊕ (xM_S)) :=
 (if (F_X5_sets s.2) ≤ s.1 then
 xl_o (some s.2) else
 xo_b (F_X5_takesElement s.1 s.2) (fun v1 =>
 xo_b (xa_ix 256 s.1) (fun j2 =>
 some (Sum.inl (s.1 + 1, (xM_a v1 35 j2 ((v1.1 6) ||| (v1.1 7))))))))
noncomputable def L_X5_laysSupports_2  (s : Int32 × xM_S) : Option (xM_S) := xl_loop (D_X5_laysSupports_2 ) s
noncomputable def F_X5_laysSupports (σ : xM_S) : Option (xM_S) :=
 L_X5_laysSupports_2 (0, σ)
set_option maxHeartbeats 4000000 in
theorem K_X5_laysSupports {g : xm_G} (hG : xm_Gw g) {h0 : xm_H} {m : Nat} {ad : Nat → Nat} (hM : xM_ok h0 m ad) (hB : xk_B g h0)  (σ : xM_S) {o : xM_S} (e : F_X5_laysSupports σ = some o) {Q : xm_P} {X : xm_X} (hQ : Q none (xMp h0 m ad o)) : xm_Run g M_X5_laysSupports 6 [.ref m] (xMp h0 m ad σ) 0 0 Q X := by
  refine xm_Run.of pn_StringTableauModel (Nat.le_of_ble_eq_true rfl) (fun Γ hΓ => ?_)
  obtain ⟨P0, hP0, hp⟩ : ∃ P : xM_S → Prop, (∀ o, P o → Q none (xMp h0 m ad o)) ∧ P o := ⟨fun o => Q none (xMp h0 m ad o), fun _ h => h, hQ⟩
  clear hQ
  show xm_W g Γ 0 [some (.ref m), none] [] (xMp h0 m ad σ) 0 0
  have hL_2 : ∀  (s : Int32 × xM_S) (o : xM_S), L_X5_laysSupports_2  s = some o → P0 o → xm_W g Γ 2 [some (.ref m), some (.int s.1)] [] (xMp h0 m ad s.2) 0 0 := by
    skip
    refine xl_rule (WS := fun s : Int32 × xM_S => xm_W g Γ 2 [some (.ref m), some (.int s.1)] [] (xMp h0 m ad s.2) 0 0) ?_
    intro s o e hp
    obtain ⟨P1, hP1, hp⟩ : ∃ P : (Int32 × xM_S) ⊕ (xM_S) → Prop, (∀ o, P o → xl_P (fun s : Int32 × xM_S => xm_W g Γ 2 [some (.ref m), some (.int s.1)] [] (xMp h0 m ad s.2) 0 0) P0 o) ∧ P o := ⟨_, fun _ h => h, hp⟩
    unfold D_X5_laysSupports_2 at e
    refine xw_ild (show xm_Imp g Γ 2 (xi_ild 1 3) from xs_iload_n hΓ dX5_laysSupports_2) rfl ?_
    refine xw_ald (show xm_Imp g Γ 3 (xi_ald 0 4) from xs_aload_n hΓ dX5_laysSupports_3) rfl ?_
    refine xw_mv0 (show xm_Imp g Γ 4 (xi_vir g 4 M_X5_sets 1 0 7) from xs_invV hG hΓ k_X5_sets rfl (ci := 4) rfl q3073 q3075 qs61 dX5_laysSupports_4) rfl (fun Q X hQ => K_X5_sets hG hM hB s.2 rfl hQ) ?_
    refine xw_ic (show xm_Imp g Γ 7 (xi_ic (fun x y => y ≤ x) 36 10) from xs_icmp_ge hΓ dX5_laysSupports_7 (by decide)) (fun c => ?_) (fun c => ?_)
    · rw [if_pos c] at e
      obtain ⟨_, e, hp⟩ := xl_o_s e (hP1 _ hp)
      exact xw_vret (show xm_Imp g Γ 36 (xi_vret _) from xs_return hΓ rfl dX5_laysSupports_36) (hP0 _ (xl_fin e hp))
    · rw [if_neg c] at e
      refine xw_ald (show xm_Imp g Γ 10 (xi_ald 0 11) from xs_aload_n hΓ dX5_laysSupports_10) rfl ?_
      refine xw_ild (show xm_Imp g Γ 11 (xi_ild 1 12) from xs_iload_n hΓ dX5_laysSupports_11) rfl ?_
      obtain ⟨v1, e1, e⟩ := xo_b_s e
      refine xw_mu1 (show xm_Imp g Γ 12 (xi_vir g 4 M_X5_takesElement 5 1 15) from xs_invV hG hΓ k_X5_takesElement rfl (ci := 4) rfl q3097 q3099 qs66 dX5_laysSupports_12) rfl (fun Q X hQ => K_X5_takesElement hG hM hB s.1 s.2 e1 hQ) ?_
      refine xw_ald (show xm_Imp g Γ 15 (xi_ald 0 16) from xs_aload_n hΓ dX5_laysSupports_15) rfl ?_
      refine xw_mga (k := 35) (show xm_Imp g Γ 16 (xi_get 4 35 19) from xs_get hG hΓ (ci := 4) (kf := 35) rfl (Nat.le_of_ble_eq_true rfl) q2885 dX5_laysSupports_16) (fun _ => rfl) ?_
      refine xw_ild (show xm_Imp g Γ 19 (xi_ild 1 20) from xs_iload_n hΓ dX5_laysSupports_19) rfl ?_
      refine xw_ald (show xm_Imp g Γ 20 (xi_ald 0 21) from xs_aload_n hΓ dX5_laysSupports_20) rfl ?_
      refine xw_mgi (v := (v1.1 6)) (show xm_Imp g Γ 21 (xi_get 4 6 24) from xs_get hG hΓ (ci := 4) (kf := 6) rfl (Nat.le_of_ble_eq_true rfl) q2856 dX5_laysSupports_21) (fun _ => rfl) rfl ?_
      refine xw_ald (show xm_Imp g Γ 24 (xi_ald 0 25) from xs_aload_n hΓ dX5_laysSupports_24) rfl ?_
      refine xw_mgi (v := (v1.1 7)) (show xm_Imp g Γ 25 (xi_get 4 7 28) from xs_get hG hΓ (ci := 4) (kf := 7) rfl (Nat.le_of_ble_eq_true rfl) q2857 dX5_laysSupports_25) (fun _ => rfl) rfl ?_
      refine xw_ii (show xm_Imp g Γ 28 (xi_ii (fun x y => x ||| y) 29) from xs_ior hΓ dX5_laysSupports_28) ?_
      obtain ⟨j2, e1, e⟩ := xo_b_s e
      refine xw_mias (k := 35) (show xm_Imp g Γ 29 (xi_ias 30) from xs_ias hG hΓ dX5_laysSupports_29) hM (by decide) rfl e1 ?_
      refine xw_inc (v := (1)) (ls' := [some (.ref m), some (.int (s.1 + 1))]) (show xm_Imp g Γ 30 (xi_inc 1 (1) 33) from xs_iinc hΓ dX5_laysSupports_30 (by decide) (Nat.le_of_ble_eq_true rfl)) rfl rfl ?_
      refine xw_goto (show xm_Imp g Γ 33 (xi_goto 2) from xs_goto hΓ dX5_laysSupports_33 (by decide)) ?_
      have hq := xl_P_inl (hP1 _ (xl_fin e hp)); exact hq
  unfold F_X5_laysSupports at e
  refine xw_psh (v := (.int (0))) (show xm_Imp g Γ 0 (xi_psh (.int (0)) 1) from xs_iconst hΓ dX5_laysSupports_0 (by decide)) ?_
  refine xw_ist (ls' := [some (.ref m), some (.int 0)]) (show xm_Imp g Γ 1 (xi_ist 1 2) from xs_istore_n hΓ dX5_laysSupports_1 (Nat.le_of_ble_eq_true rfl)) rfl ?_
  exact hL_2 _ _ e hp
noncomputable def D_X5_powerOf_2 (l0 : Int32) (s : Int32) : Option ((Int32) ⊕ (Int32)) :=
 (if l0 ≤ (1 <<< (s &&& 31)) then
 xl_o (some (s)) else
 some (Sum.inl (s + 1)))
noncomputable def L_X5_powerOf_2 (l0 : Int32) (s : Int32) : Option (Int32) := xl_loop (D_X5_powerOf_2 l0) s
noncomputable def F_X5_powerOf (p0 : Int32) : Option (Int32) :=
 L_X5_powerOf_2 p0 0
set_option maxHeartbeats 4000000 in
theorem K_X5_powerOf {g : xm_G} (hG : xm_Gw g) {h : xm_H} (p0 : Int32) {o : Int32} (e : F_X5_powerOf p0 = some o) {Q : xm_P} {X : xm_X} (hQ : Q (some (.int o)) h) : xm_Run g M_X5_powerOf 1 [.int p0] h 0 0 Q X := by
  refine xm_Run.of pn_StringTableauModel (Nat.le_of_ble_eq_true rfl) (fun Γ hΓ => ?_)
  obtain ⟨P0, hP0, hp⟩ : ∃ P : Int32 → Prop, (∀ o, P o → Q (some (.int o)) h) ∧ P o := ⟨fun o => Q (some (.int o)) h, fun _ h => h, hQ⟩
  clear hQ
  show xm_W g Γ 0 [some (.int p0), none] [] h 0 0
  have hL_2 : ∀ (l0 : Int32) (s : Int32) (o : Int32), L_X5_powerOf_2 l0 s = some o → P0 o → xm_W g Γ 2 [some (.int l0), some (.int s)] [] h 0 0 := by
    intro l0
    refine xl_rule (WS := fun s : Int32 => xm_W g Γ 2 [some (.int l0), some (.int s)] [] h 0 0) ?_
    intro s o e hp
    obtain ⟨P1, hP1, hp⟩ : ∃ P : (Int32) ⊕ (Int32) → Prop, (∀ o, P o → xl_P (fun s : Int32 => xm_W g Γ 2 [some (.int l0), some (.int s)] [] h 0 0) P0 o) ∧ P o := ⟨_, fun _ h => h, hp⟩
    unfold D_X5_powerOf_2 at e
    refine xw_psh (v := (.int (1))) (show xm_Imp g Γ 2 (xi_psh (.int (1)) 3) from xs_iconst hΓ dX5_powerOf_2 (by decide)) ?_
    refine xw_ild (show xm_Imp g Γ 3 (xi_ild 1 4) from xs_iload_n hΓ dX5_powerOf_3) rfl ?_
    refine xw_ii (show xm_Imp g Γ 4 (xi_ii (fun x y => x <<< (y &&& 31)) 5) from xs_ishl hΓ dX5_powerOf_4) ?_
    refine xw_ild (show xm_Imp g Γ 5 (xi_ild 0 6) from xs_iload_n hΓ dX5_powerOf_5) rfl ?_
    refine xw_ic (show xm_Imp g Γ 6 (xi_ic (fun x y => y ≤ x) 16 9) from xs_icmp_ge hΓ dX5_powerOf_6 (by decide)) (fun c => ?_) (fun c => ?_)
    · rw [if_pos c] at e
      obtain ⟨_, e, hp⟩ := xl_o_s e (hP1 _ hp)
      refine xw_ild (show xm_Imp g Γ 16 (xi_ild 1 17) from xs_iload_n hΓ dX5_powerOf_16) rfl ?_
      exact xw_iret (show xm_Imp g Γ 17 (xi_iret .int _) from xs_ireturn hΓ rfl dX5_powerOf_17) (xn_int _) (hP0 _ (xl_fin e hp))
    · rw [if_neg c] at e
      refine xw_ild (show xm_Imp g Γ 9 (xi_ild 1 10) from xs_iload_n hΓ dX5_powerOf_9) rfl ?_
      refine xw_psh (v := (.int (1))) (show xm_Imp g Γ 10 (xi_psh (.int (1)) 11) from xs_iconst hΓ dX5_powerOf_10 (by decide)) ?_
      refine xw_ii (show xm_Imp g Γ 11 (xi_ii (fun x y => x + y) 12) from xs_iadd hΓ dX5_powerOf_11) ?_
      refine xw_ist (ls' := [some (.int l0), some (.int (s + 1))]) (show xm_Imp g Γ 12 (xi_ist 1 13) from xs_istore_n hΓ dX5_powerOf_12 (Nat.le_of_ble_eq_true rfl)) rfl ?_
      refine xw_goto (show xm_Imp g Γ 13 (xi_goto 2) from xs_goto hΓ dX5_powerOf_13 (by decide)) ?_
      have hq := xl_P_inl (hP1 _ (xl_fin e hp)); exact hq
  unfold F_X5_powerOf at e
  refine xw_psh (v := (.int (0))) (show xm_Imp g Γ 0 (xi_psh (.int (0)) 1) from xs_iconst hΓ dX5_powerOf_0 (by decide)) ?_
  refine xw_ist (ls' := [some (.int p0), some (.int 0)]) (show xm_Imp g Γ 1 (xi_ist 1 2) from xs_istore_n hΓ dX5_powerOf_1 (Nat.le_of_ble_eq_true rfl)) rfl ?_
  exact hL_2 _ _ _ e hp
noncomputable def B_X5_entropyOf_29 (l1 : Int32) (l2 : Int32) (l3 : Int32) (σ : xM_S) : Option ((Int32 × Int32) ⊕ (Int32)) :=
 some (Sum.inl (l2, l3 + 1))
noncomputable def D_X5_entropyOf_4 (l1 : Int32) (σ : xM_S) (s : Int32 × Int32) : Option ((Int32 × Int32) ⊕ (Int32)) :=
 (if (F_X5_sets σ) ≤ s.2 then
 xl_o (xo_b (F_X5_bits l1) (fun v1 =>
 xo_b (F_X5_powerOf s.1) (fun v2 =>
 some (v1 - v2)))) else
 xo_b (xa_ix 256 s.2) (fun j3 =>
 B_X5_entropyOf_29 l1 (if ((σ.2 35 j3) &&& (l1 ^^^ (-1))) = 0 then s.1 + 1 else s.1) s.2 σ))
noncomputable def L_X5_entropyOf_4 (l1 : Int32) (σ : xM_S) (s : Int32 × Int32) : Option (Int32) := xl_loop (D_X5_entropyOf_4 l1 σ) s
noncomputable def F_X5_entropyOf (p1 : Int32) (σ : xM_S) : Option (Int32) :=
 L_X5_entropyOf_4 p1 σ (0, 0)
set_option maxHeartbeats 4000000 in
theorem K_X5_entropyOf {g : xm_G} (hG : xm_Gw g) {h0 : xm_H} {m : Nat} {ad : Nat → Nat} (hM : xM_ok h0 m ad) (hB : xk_B g h0) (p1 : Int32) (σ : xM_S) {o : Int32} (e : F_X5_entropyOf p1 σ = some o) {Q : xm_P} {X : xm_X} (hQ : Q (some (.int o)) (xMp h0 m ad σ)) : xm_Run g M_X5_entropyOf 2 [.ref m, .int p1] (xMp h0 m ad σ) 0 0 Q X := by
  refine xm_Run.of pn_StringTableauModel (Nat.le_of_ble_eq_true rfl) (fun Γ hΓ => ?_)
  obtain ⟨P0, hP0, hp⟩ : ∃ P : Int32 → Prop, (∀ o, P o → Q (some (.int o)) (xMp h0 m ad σ)) ∧ P o := ⟨fun o => Q (some (.int o)) (xMp h0 m ad σ), fun _ h => h, hQ⟩
  clear hQ
  show xm_W g Γ 0 [some (.ref m), some (.int p1), none, none] [] (xMp h0 m ad σ) 0 0
  have hL_4 : ∀ (l1 : Int32) (s : Int32 × Int32) (o : Int32), L_X5_entropyOf_4 l1 σ s = some o → P0 o → xm_W g Γ 4 [some (.ref m), some (.int l1), some (.int s.1), some (.int s.2)] [] (xMp h0 m ad σ) 0 0 := by
    intro l1
    refine xl_rule (WS := fun s : Int32 × Int32 => xm_W g Γ 4 [some (.ref m), some (.int l1), some (.int s.1), some (.int s.2)] [] (xMp h0 m ad σ) 0 0) ?_
    intro s o e hp
    obtain ⟨P1, hP1, hp⟩ : ∃ P : (Int32 × Int32) ⊕ (Int32) → Prop, (∀ o, P o → xl_P (fun s : Int32 × Int32 => xm_W g Γ 4 [some (.ref m), some (.int l1), some (.int s.1), some (.int s.2)] [] (xMp h0 m ad σ) 0 0) P0 o) ∧ P o := ⟨_, fun _ h => h, hp⟩
    have hB_29 : ∀ (l2 : Int32) (l3 : Int32) (o : (Int32 × Int32) ⊕ (Int32)), B_X5_entropyOf_29 l1 l2 l3 σ = some o → P1 o → xm_W g Γ 29 [some (.ref m), some (.int l1), some (.int l2), some (.int l3)] [] (xMp h0 m ad σ) 0 0 := by
      intro l2 l3 o e hp
      unfold B_X5_entropyOf_29 at e
      refine xw_inc (v := (1)) (ls' := [some (.ref m), some (.int l1), some (.int l2), some (.int (l3 + 1))]) (show xm_Imp g Γ 29 (xi_inc 3 (1) 32) from xs_iinc hΓ dX5_entropyOf_29 (by decide) (Nat.le_of_ble_eq_true rfl)) rfl rfl ?_
      refine xw_goto (show xm_Imp g Γ 32 (xi_goto 4) from xs_goto hΓ dX5_entropyOf_32 (by decide)) ?_
      have hq := xl_P_inl (hP1 _ (xl_fin e hp)); exact hq
    unfold D_X5_entropyOf_4 at e
    refine xw_ild (show xm_Imp g Γ 4 (xi_ild 3 5) from xs_iload_n hΓ dX5_entropyOf_4) rfl ?_
    refine xw_ald (show xm_Imp g Γ 5 (xi_ald 0 6) from xs_aload_n hΓ dX5_entropyOf_5) rfl ?_
    refine xw_mv0 (show xm_Imp g Γ 6 (xi_vir g 4 M_X5_sets 1 0 9) from xs_invV hG hΓ k_X5_sets rfl (ci := 4) rfl q3073 q3075 qs61 dX5_entropyOf_6) rfl (fun Q X hQ => K_X5_sets hG hM hB σ rfl hQ) ?_
    refine xw_ic (show xm_Imp g Γ 9 (xi_ic (fun x y => y ≤ x) 35 12) from xs_icmp_ge hΓ dX5_entropyOf_9 (by decide)) (fun c => ?_) (fun c => ?_)
    · rw [if_pos c] at e
      obtain ⟨_, e, hp⟩ := xl_o_s e (hP1 _ hp)
      refine xw_ild (show xm_Imp g Γ 35 (xi_ild 1 36) from xs_iload_n hΓ dX5_entropyOf_35) rfl ?_
      obtain ⟨v1, e1, e⟩ := xo_b_s e
      refine xw_sv1 (show xm_Imp g Γ 36 (xi_inv g M_X5_bits 1 1 39) from xs_invS hG hΓ k_X5_bits rfl q3349 q3350 dX5_entropyOf_36) rfl (fun Q X hQ => K_X5_bits hG l1 e1 hQ) ?_
      refine xw_ild (show xm_Imp g Γ 39 (xi_ild 2 40) from xs_iload_n hΓ dX5_entropyOf_39) rfl ?_
      obtain ⟨v2, e1, e⟩ := xo_b_s e
      refine xw_sv1 (show xm_Imp g Γ 40 (xi_inv g M_X5_powerOf 1 1 43) from xs_invS hG hΓ k_X5_powerOf rfl q3397 q3398 dX5_entropyOf_40) rfl (fun Q X hQ => K_X5_powerOf hG s.1 e1 hQ) ?_
      refine xw_ii (show xm_Imp g Γ 43 (xi_ii (fun x y => x - y) 44) from xs_isub hΓ dX5_entropyOf_43) ?_
      exact xw_iret (show xm_Imp g Γ 44 (xi_iret .int _) from xs_ireturn hΓ rfl dX5_entropyOf_44) (xn_int _) (hP0 _ (xl_fin e hp))
    · rw [if_neg c] at e
      refine xw_ald (show xm_Imp g Γ 12 (xi_ald 0 13) from xs_aload_n hΓ dX5_entropyOf_12) rfl ?_
      refine xw_mga (k := 35) (show xm_Imp g Γ 13 (xi_get 4 35 16) from xs_get hG hΓ (ci := 4) (kf := 35) rfl (Nat.le_of_ble_eq_true rfl) q2885 dX5_entropyOf_13) (fun _ => rfl) ?_
      refine xw_ild (show xm_Imp g Γ 16 (xi_ild 3 17) from xs_iload_n hΓ dX5_entropyOf_16) rfl ?_
      obtain ⟨j3, e1, e⟩ := xo_b_s e
      refine xw_mial (k := 35) (v := (σ.2 35 j3)) (show xm_Imp g Γ 17 (xi_ial 18) from xs_ial hG hΓ dX5_entropyOf_17) hM (by decide) rfl e1 rfl ?_
      refine xw_ild (show xm_Imp g Γ 18 (xi_ild 1 19) from xs_iload_n hΓ dX5_entropyOf_18) rfl ?_
      refine xw_psh (v := (.int (-1))) (show xm_Imp g Γ 19 (xi_psh (.int (-1)) 20) from xs_iconst hΓ dX5_entropyOf_19 (by decide)) ?_
      refine xw_ii (show xm_Imp g Γ 20 (xi_ii (fun x y => x ^^^ y) 21) from xs_ixor hΓ dX5_entropyOf_20) ?_
      refine xw_ii (show xm_Imp g Γ 21 (xi_ii (fun x y => x &&& y) 22) from xs_iand hΓ dX5_entropyOf_21) ?_
      refine xw_if (show xm_Imp g Γ 22 (xi_if (fun x => x = 0) 25 29) from xs_if_ne hΓ dX5_entropyOf_22 (by decide)) (fun c => ?_) (fun c => ?_)
      · rw [if_pos c] at e
        refine xw_ild (show xm_Imp g Γ 25 (xi_ild 2 26) from xs_iload_n hΓ dX5_entropyOf_25) rfl ?_
        refine xw_psh (v := (.int (1))) (show xm_Imp g Γ 26 (xi_psh (.int (1)) 27) from xs_iconst hΓ dX5_entropyOf_26 (by decide)) ?_
        refine xw_ii (show xm_Imp g Γ 27 (xi_ii (fun x y => x + y) 28) from xs_iadd hΓ dX5_entropyOf_27) ?_
        refine xw_ist (ls' := [some (.ref m), some (.int l1), some (.int (s.1 + 1)), some (.int s.2)]) (show xm_Imp g Γ 28 (xi_ist 2 29) from xs_istore_n hΓ dX5_entropyOf_28 (Nat.le_of_ble_eq_true rfl)) rfl ?_
        exact hB_29 _ _ _ e hp
      · rw [if_neg c] at e
        exact hB_29 _ _ _ e hp
  unfold F_X5_entropyOf at e
  refine xw_psh (v := (.int (0))) (show xm_Imp g Γ 0 (xi_psh (.int (0)) 1) from xs_iconst hΓ dX5_entropyOf_0 (by decide)) ?_
  refine xw_ist (ls' := [some (.ref m), some (.int p1), some (.int 0), none]) (show xm_Imp g Γ 1 (xi_ist 2 2) from xs_istore_n hΓ dX5_entropyOf_1 (Nat.le_of_ble_eq_true rfl)) rfl ?_
  refine xw_psh (v := (.int (0))) (show xm_Imp g Γ 2 (xi_psh (.int (0)) 3) from xs_iconst hΓ dX5_entropyOf_2 (by decide)) ?_
  refine xw_ist (ls' := [some (.ref m), some (.int p1), some (.int 0), some (.int 0)]) (show xm_Imp g Γ 3 (xi_ist 3 4) from xs_istore_n hΓ dX5_entropyOf_3 (Nat.le_of_ble_eq_true rfl)) rfl ?_
  exact hL_4 _ _ _ e hp
noncomputable def F_X5_entropy (p1 : Int32) (σ : xM_S) : Option (Int32 × xM_S) :=
 xo_b (F_X5_is (F_X5_isSet p1 σ) σ) (fun v1 =>
 (if v1.1 = 0 then
 some ((0, v1.2)) else
 xo_b (F_X5_laysSupports v1.2) (fun v2 =>
 xo_b (F_X5_entropyOf p1 v2) (fun v3 =>
 some ((v3, v2))))))
set_option maxHeartbeats 4000000 in
theorem K_X5_entropy {g : xm_G} (hG : xm_Gw g) {h0 : xm_H} {m : Nat} {ad : Nat → Nat} (hM : xM_ok h0 m ad) (hB : xk_B g h0) (p1 : Int32) (σ : xM_S) {o : Int32 × xM_S} (e : F_X5_entropy p1 σ = some o) {Q : xm_P} {X : xm_X} (hQ : Q (some (.int o.1)) (xMp h0 m ad o.2)) : xm_Run g M_X5_entropy 7 [.ref m, .int p1] (xMp h0 m ad σ) 0 0 Q X := by
  refine xm_Run.of pn_StringTableauModel (Nat.le_of_ble_eq_true rfl) (fun Γ hΓ => ?_)
  obtain ⟨P0, hP0, hp⟩ : ∃ P : Int32 × xM_S → Prop, (∀ o, P o → Q (some (.int o.1)) (xMp h0 m ad o.2)) ∧ P o := ⟨fun o => Q (some (.int o.1)) (xMp h0 m ad o.2), fun _ h => h, hQ⟩
  clear hQ
  show xm_W g Γ 0 [some (.ref m), some (.int p1)] [] (xMp h0 m ad σ) 0 0
  unfold F_X5_entropy at e
  refine xw_ald (show xm_Imp g Γ 0 (xi_ald 0 1) from xs_aload_n hΓ dX5_entropy_0) rfl ?_
  refine xw_ald (show xm_Imp g Γ 1 (xi_ald 0 2) from xs_aload_n hΓ dX5_entropy_1) rfl ?_
  refine xw_ild (show xm_Imp g Γ 2 (xi_ild 1 3) from xs_iload_n hΓ dX5_entropy_2) rfl ?_
  refine xw_mv1 (show xm_Imp g Γ 3 (xi_vir g 4 M_X5_isSet 2 1 6) from xs_invV hG hΓ k_X5_isSet rfl (ci := 4) rfl q3333 q3335 qs98 dX5_entropy_3) rfl (fun Q X hQ => K_X5_isSet hG hM hB p1 σ rfl hQ) ?_
  obtain ⟨v1, e1, e⟩ := xo_b_s e
  refine xw_mv1 (show xm_Imp g Γ 6 (xi_vir g 4 M_X5_is 1 1 9) from xs_invV hG hΓ k_X5_is rfl (ci := 4) rfl q2986 q2988 qs46 dX5_entropy_6) rfl (fun Q X hQ => K_X5_is hG hM hB (F_X5_isSet p1 σ) σ e1 hQ) ?_
  refine xw_if (show xm_Imp g Γ 9 (xi_if (fun x => x = 0) 12 14) from xs_if_ne hΓ dX5_entropy_9 (by decide)) (fun c => ?_) (fun c => ?_)
  · rw [if_pos c] at e
    refine xw_psh (v := (.int (0))) (show xm_Imp g Γ 12 (xi_psh (.int (0)) 13) from xs_iconst hΓ dX5_entropy_12 (by decide)) ?_
    exact xw_iret (show xm_Imp g Γ 13 (xi_iret .int _) from xs_ireturn hΓ rfl dX5_entropy_13) (xn_int _) (hP0 _ (xl_fin e hp))
  · rw [if_neg c] at e
    refine xw_ald (show xm_Imp g Γ 14 (xi_ald 0 15) from xs_aload_n hΓ dX5_entropy_14) rfl ?_
    obtain ⟨v2, e1, e⟩ := xo_b_s e
    refine xw_mu0 (show xm_Imp g Γ 15 (xi_vir g 4 M_X5_laysSupports 6 0 18) from xs_invV hG hΓ k_X5_laysSupports rfl (ci := 4) rfl q3389 q3391 qs105 dX5_entropy_15) rfl (fun Q X hQ => K_X5_laysSupports hG hM hB v1.2 e1 hQ) ?_
    refine xw_ald (show xm_Imp g Γ 18 (xi_ald 0 19) from xs_aload_n hΓ dX5_entropy_18) rfl ?_
    refine xw_ild (show xm_Imp g Γ 19 (xi_ild 1 20) from xs_iload_n hΓ dX5_entropy_19) rfl ?_
    obtain ⟨v3, e1, e⟩ := xo_b_s e
    refine xw_mv1 (show xm_Imp g Γ 20 (xi_vir g 4 M_X5_entropyOf 2 1 23) from xs_invV hG hΓ k_X5_entropyOf rfl (ci := 4) rfl q3393 q3395 qs106 dX5_entropy_20) rfl (fun Q X hQ => K_X5_entropyOf hG hM hB p1 v2 e1 hQ) ?_
    exact xw_iret (show xm_Imp g Γ 23 (xi_iret .int _) from xs_ireturn hΓ rfl dX5_entropy_23) (xn_int _) (hP0 _ (xl_fin e hp))
noncomputable def B_X5_freeQubits_39 (l1 : Int32) (l2 : Int32) (σ : xM_S) : Option ((Int32 × Int32) ⊕ (Int32 × xM_S)) :=
 some (Sum.inl (l1, l2 + 1))
noncomputable def D_X5_freeQubits_13 (σ : xM_S) (s : Int32 × Int32) : Option ((Int32 × Int32) ⊕ (Int32 × xM_S)) :=
 (if (σ.2 1 0) ≤ s.2 then
 xl_o (some ((s.1, σ))) else
 xo_b (F_X5_entropyOf (1 <<< (s.2 &&& 31)) σ) (fun v2 =>
 B_X5_freeQubits_39 (if v2 = 0 then s.1 ||| (1 <<< (s.2 &&& 31)) else s.1) s.2 σ))
noncomputable def L_X5_freeQubits_13 (σ : xM_S) (s : Int32 × Int32) : Option (Int32 × xM_S) := xl_loop (D_X5_freeQubits_13 σ) s
noncomputable def F_X5_freeQubits (σ : xM_S) : Option (Int32 × xM_S) :=
 xo_b (F_X5_laysSupports (xM_f σ 0 0)) (fun v1 =>
 L_X5_freeQubits_13 v1 (0, 0))
set_option maxHeartbeats 4000000 in
theorem K_X5_freeQubits {g : xm_G} (hG : xm_Gw g) {h0 : xm_H} {m : Nat} {ad : Nat → Nat} (hM : xM_ok h0 m ad) (hB : xk_B g h0)  (σ : xM_S) {o : Int32 × xM_S} (e : F_X5_freeQubits σ = some o) {Q : xm_P} {X : xm_X} (hQ : Q (some (.int o.1)) (xMp h0 m ad o.2)) : xm_Run g M_X5_freeQubits 7 [.ref m] (xMp h0 m ad σ) 0 0 Q X := by
  refine xm_Run.of pn_StringTableauModel (Nat.le_of_ble_eq_true rfl) (fun Γ hΓ => ?_)
  obtain ⟨P0, hP0, hp⟩ : ∃ P : Int32 × xM_S → Prop, (∀ o, P o → Q (some (.int o.1)) (xMp h0 m ad o.2)) ∧ P o := ⟨fun o => Q (some (.int o.1)) (xMp h0 m ad o.2), fun _ h => h, hQ⟩
  clear hQ
  show xm_W g Γ 0 [some (.ref m), none, none] [] (xMp h0 m ad σ) 0 0
  have hL_13 : ∀ (σ : xM_S) (s : Int32 × Int32) (o : Int32 × xM_S), L_X5_freeQubits_13 σ s = some o → P0 o → xm_W g Γ 13 [some (.ref m), some (.int s.1), some (.int s.2)] [] (xMp h0 m ad σ) 0 0 := by
    intro σ
    refine xl_rule (WS := fun s : Int32 × Int32 => xm_W g Γ 13 [some (.ref m), some (.int s.1), some (.int s.2)] [] (xMp h0 m ad σ) 0 0) ?_
    intro s o e hp
    obtain ⟨P1, hP1, hp⟩ : ∃ P : (Int32 × Int32) ⊕ (Int32 × xM_S) → Prop, (∀ o, P o → xl_P (fun s : Int32 × Int32 => xm_W g Γ 13 [some (.ref m), some (.int s.1), some (.int s.2)] [] (xMp h0 m ad σ) 0 0) P0 o) ∧ P o := ⟨_, fun _ h => h, hp⟩
    have hB_39 : ∀ (l1 : Int32) (l2 : Int32) (o : (Int32 × Int32) ⊕ (Int32 × xM_S)), B_X5_freeQubits_39 l1 l2 σ = some o → P1 o → xm_W g Γ 39 [some (.ref m), some (.int l1), some (.int l2)] [] (xMp h0 m ad σ) 0 0 := by
      intro l1 l2 o e hp
      unfold B_X5_freeQubits_39 at e
      refine xw_inc (v := (1)) (ls' := [some (.ref m), some (.int l1), some (.int (l2 + 1))]) (show xm_Imp g Γ 39 (xi_inc 2 (1) 42) from xs_iinc hΓ dX5_freeQubits_39 (by decide) (Nat.le_of_ble_eq_true rfl)) rfl rfl ?_
      refine xw_goto (show xm_Imp g Γ 42 (xi_goto 13) from xs_goto hΓ dX5_freeQubits_42 (by decide)) ?_
      have hq := xl_P_inl (hP1 _ (xl_fin e hp)); exact hq
    unfold D_X5_freeQubits_13 at e
    refine xw_ild (show xm_Imp g Γ 13 (xi_ild 2 14) from xs_iload_n hΓ dX5_freeQubits_13) rfl ?_
    refine xw_ald (show xm_Imp g Γ 14 (xi_ald 0 15) from xs_aload_n hΓ dX5_freeQubits_14) rfl ?_
    refine xw_mga (k := 1) (show xm_Imp g Γ 15 (xi_get 4 1 18) from xs_get hG hΓ (ci := 4) (kf := 1) rfl (Nat.le_of_ble_eq_true rfl) q2851 dX5_freeQubits_15) (fun _ => rfl) ?_
    refine xw_psh (v := (.int (0))) (show xm_Imp g Γ 18 (xi_psh (.int (0)) 19) from xs_iconst hΓ dX5_freeQubits_18 (by decide)) ?_
    refine xw_mial (k := 1) (j := 0) (v := (σ.2 1 0)) (show xm_Imp g Γ 19 (xi_ial 20) from xs_ial hG hΓ dX5_freeQubits_19) hM (by decide) rfl rfl rfl ?_
    refine xw_ic (show xm_Imp g Γ 20 (xi_ic (fun x y => y ≤ x) 45 23) from xs_icmp_ge hΓ dX5_freeQubits_20 (by decide)) (fun c => ?_) (fun c => ?_)
    · rw [if_pos c] at e
      obtain ⟨_, e, hp⟩ := xl_o_s e (hP1 _ hp)
      refine xw_ild (show xm_Imp g Γ 45 (xi_ild 1 46) from xs_iload_n hΓ dX5_freeQubits_45) rfl ?_
      exact xw_iret (show xm_Imp g Γ 46 (xi_iret .int _) from xs_ireturn hΓ rfl dX5_freeQubits_46) (xn_int _) (hP0 _ (xl_fin e hp))
    · rw [if_neg c] at e
      refine xw_ald (show xm_Imp g Γ 23 (xi_ald 0 24) from xs_aload_n hΓ dX5_freeQubits_23) rfl ?_
      refine xw_psh (v := (.int (1))) (show xm_Imp g Γ 24 (xi_psh (.int (1)) 25) from xs_iconst hΓ dX5_freeQubits_24 (by decide)) ?_
      refine xw_ild (show xm_Imp g Γ 25 (xi_ild 2 26) from xs_iload_n hΓ dX5_freeQubits_25) rfl ?_
      refine xw_ii (show xm_Imp g Γ 26 (xi_ii (fun x y => x <<< (y &&& 31)) 27) from xs_ishl hΓ dX5_freeQubits_26) ?_
      obtain ⟨v2, e1, e⟩ := xo_b_s e
      refine xw_mv1 (show xm_Imp g Γ 27 (xi_vir g 4 M_X5_entropyOf 2 1 30) from xs_invV hG hΓ k_X5_entropyOf rfl (ci := 4) rfl q3393 q3395 qs106 dX5_freeQubits_27) rfl (fun Q X hQ => K_X5_entropyOf hG hM hB (1 <<< (s.2 &&& 31)) σ e1 hQ) ?_
      refine xw_if (show xm_Imp g Γ 30 (xi_if (fun x => x = 0) 33 39) from xs_if_ne hΓ dX5_freeQubits_30 (by decide)) (fun c => ?_) (fun c => ?_)
      · rw [if_pos c] at e
        refine xw_ild (show xm_Imp g Γ 33 (xi_ild 1 34) from xs_iload_n hΓ dX5_freeQubits_33) rfl ?_
        refine xw_psh (v := (.int (1))) (show xm_Imp g Γ 34 (xi_psh (.int (1)) 35) from xs_iconst hΓ dX5_freeQubits_34 (by decide)) ?_
        refine xw_ild (show xm_Imp g Γ 35 (xi_ild 2 36) from xs_iload_n hΓ dX5_freeQubits_35) rfl ?_
        refine xw_ii (show xm_Imp g Γ 36 (xi_ii (fun x y => x <<< (y &&& 31)) 37) from xs_ishl hΓ dX5_freeQubits_36) ?_
        refine xw_ii (show xm_Imp g Γ 37 (xi_ii (fun x y => x ||| y) 38) from xs_ior hΓ dX5_freeQubits_37) ?_
        refine xw_ist (ls' := [some (.ref m), some (.int (s.1 ||| (1 <<< (s.2 &&& 31)))), some (.int s.2)]) (show xm_Imp g Γ 38 (xi_ist 1 39) from xs_istore_n hΓ dX5_freeQubits_38 (Nat.le_of_ble_eq_true rfl)) rfl ?_
        exact hB_39 _ _ _ e hp
      · rw [if_neg c] at e
        exact hB_39 _ _ _ e hp
  unfold F_X5_freeQubits at e
  refine xw_ald (show xm_Imp g Γ 0 (xi_ald 0 1) from xs_aload_n hΓ dX5_freeQubits_0) rfl ?_
  refine xw_psh (v := (.int (0))) (show xm_Imp g Γ 1 (xi_psh (.int (0)) 2) from xs_iconst hΓ dX5_freeQubits_1 (by decide)) ?_
  refine xw_mpi (show xm_Imp g Γ 2 (xi_put 4 0 (.int) 5) from xs_put hG hΓ (ci := 4) (kf := 0) rfl (Nat.le_of_ble_eq_true rfl) rfl (by decide +kernel) q2850 dX5_freeQubits_2) (fun _ _ => rfl) ⟨rfl, rfl⟩ ?_
  refine xw_ald (show xm_Imp g Γ 5 (xi_ald 0 6) from xs_aload_n hΓ dX5_freeQubits_5) rfl ?_
  obtain ⟨v1, e1, e⟩ := xo_b_s e
  refine xw_mu0 (show xm_Imp g Γ 6 (xi_vir g 4 M_X5_laysSupports 6 0 9) from xs_invV hG hΓ k_X5_laysSupports rfl (ci := 4) rfl q3389 q3391 qs105 dX5_freeQubits_6) rfl (fun Q X hQ => K_X5_laysSupports hG hM hB (xM_f σ 0 0) e1 hQ) ?_
  refine xw_psh (v := (.int (0))) (show xm_Imp g Γ 9 (xi_psh (.int (0)) 10) from xs_iconst hΓ dX5_freeQubits_9 (by decide)) ?_
  refine xw_ist (ls' := [some (.ref m), some (.int 0), none]) (show xm_Imp g Γ 10 (xi_ist 1 11) from xs_istore_n hΓ dX5_freeQubits_10 (Nat.le_of_ble_eq_true rfl)) rfl ?_
  refine xw_psh (v := (.int (0))) (show xm_Imp g Γ 11 (xi_psh (.int (0)) 12) from xs_iconst hΓ dX5_freeQubits_11 (by decide)) ?_
  refine xw_ist (ls' := [some (.ref m), some (.int 0), some (.int 0)]) (show xm_Imp g Γ 12 (xi_ist 2 13) from xs_istore_n hΓ dX5_freeQubits_12 (Nat.le_of_ble_eq_true rfl)) rfl ?_
  exact hL_13 _ _ _ e hp
noncomputable def B_X5_block_65 (l1 : Int32) (l2 : Int32) (l3 : Int32) (σ : xM_S) : Option ((Int32 × Int32) ⊕ (Int32 × xM_S)) :=
 some (Sum.inl (l2, l3 + (-1)))
noncomputable def D_X5_block_32 (l1 : Int32) (σ : xM_S) (s : Int32 × Int32) : Option ((Int32 × Int32) ⊕ (Int32 × xM_S)) :=
 (if s.2 ≤ 0 then
 xl_o (some ((s.1, σ))) else
 (if (F_X5_has s.2 l1) = 0 then
 B_X5_block_65 l1 s.1 s.2 σ else
 xo_b (F_X5_bits s.2) (fun v3 =>
 xo_b (F_X5_bits s.1) (fun v4 =>
 (if v4 < v3 then
 B_X5_block_65 l1 s.1 s.2 σ else
 xo_b (F_X5_entropyOf s.2 σ) (fun v5 =>
 B_X5_block_65 l1 (if v5 = 0 then s.2 else s.1) s.2 σ))))))
noncomputable def L_X5_block_32 (l1 : Int32) (σ : xM_S) (s : Int32 × Int32) : Option (Int32 × xM_S) := xl_loop (D_X5_block_32 l1 σ) s
noncomputable def F_X5_block (p1 : Int32) (σ : xM_S) : Option (Int32 × xM_S) :=
 xo_b (F_X5_is (F_X5_isQubit p1 σ) σ) (fun v1 =>
 (if v1.1 = 0 then
 some ((0, v1.2)) else
 xo_b (F_X5_laysSupports v1.2) (fun v2 =>
 L_X5_block_32 p1 v2 ((F_X5_sets v2) - 1, (F_X5_sets v2) - 1))))
set_option maxHeartbeats 4000000 in
theorem K_X5_block {g : xm_G} (hG : xm_Gw g) {h0 : xm_H} {m : Nat} {ad : Nat → Nat} (hM : xM_ok h0 m ad) (hB : xk_B g h0) (p1 : Int32) (σ : xM_S) {o : Int32 × xM_S} (e : F_X5_block p1 σ = some o) {Q : xm_P} {X : xm_X} (hQ : Q (some (.int o.1)) (xMp h0 m ad o.2)) : xm_Run g M_X5_block 7 [.ref m, .int p1] (xMp h0 m ad σ) 0 0 Q X := by
  refine xm_Run.of pn_StringTableauModel (Nat.le_of_ble_eq_true rfl) (fun Γ hΓ => ?_)
  obtain ⟨P0, hP0, hp⟩ : ∃ P : Int32 × xM_S → Prop, (∀ o, P o → Q (some (.int o.1)) (xMp h0 m ad o.2)) ∧ P o := ⟨fun o => Q (some (.int o.1)) (xMp h0 m ad o.2), fun _ h => h, hQ⟩
  clear hQ
  show xm_W g Γ 0 [some (.ref m), some (.int p1), none, none] [] (xMp h0 m ad σ) 0 0
  have hL_32 : ∀ (l1 : Int32) (σ : xM_S) (s : Int32 × Int32) (o : Int32 × xM_S), L_X5_block_32 l1 σ s = some o → P0 o → xm_W g Γ 32 [some (.ref m), some (.int l1), some (.int s.1), some (.int s.2)] [] (xMp h0 m ad σ) 0 0 := by
    intro l1 σ
    refine xl_rule (WS := fun s : Int32 × Int32 => xm_W g Γ 32 [some (.ref m), some (.int l1), some (.int s.1), some (.int s.2)] [] (xMp h0 m ad σ) 0 0) ?_
    intro s o e hp
    obtain ⟨P1, hP1, hp⟩ : ∃ P : (Int32 × Int32) ⊕ (Int32 × xM_S) → Prop, (∀ o, P o → xl_P (fun s : Int32 × Int32 => xm_W g Γ 32 [some (.ref m), some (.int l1), some (.int s.1), some (.int s.2)] [] (xMp h0 m ad σ) 0 0) P0 o) ∧ P o := ⟨_, fun _ h => h, hp⟩
    have hB_65 : ∀ (l2 : Int32) (l3 : Int32) (o : (Int32 × Int32) ⊕ (Int32 × xM_S)), B_X5_block_65 l1 l2 l3 σ = some o → P1 o → xm_W g Γ 65 [some (.ref m), some (.int l1), some (.int l2), some (.int l3)] [] (xMp h0 m ad σ) 0 0 := by
      intro l2 l3 o e hp
      unfold B_X5_block_65 at e
      refine xw_inc (v := (-1)) (ls' := [some (.ref m), some (.int l1), some (.int l2), some (.int (l3 + (-1)))]) (show xm_Imp g Γ 65 (xi_inc 3 (-1) 68) from xs_iinc hΓ dX5_block_65 (by decide) (Nat.le_of_ble_eq_true rfl)) rfl rfl ?_
      refine xw_goto (show xm_Imp g Γ 68 (xi_goto 32) from xs_goto hΓ dX5_block_68 (by decide)) ?_
      have hq := xl_P_inl (hP1 _ (xl_fin e hp)); exact hq
    unfold D_X5_block_32 at e
    refine xw_ild (show xm_Imp g Γ 32 (xi_ild 3 33) from xs_iload_n hΓ dX5_block_32) rfl ?_
    refine xw_if (show xm_Imp g Γ 33 (xi_if (fun x => x ≤ 0) 71 36) from xs_if_le hΓ dX5_block_33 (by decide)) (fun c => ?_) (fun c => ?_)
    · rw [if_pos c] at e
      obtain ⟨_, e, hp⟩ := xl_o_s e (hP1 _ hp)
      refine xw_ild (show xm_Imp g Γ 71 (xi_ild 2 72) from xs_iload_n hΓ dX5_block_71) rfl ?_
      exact xw_iret (show xm_Imp g Γ 72 (xi_iret .int _) from xs_ireturn hΓ rfl dX5_block_72) (xn_int _) (hP0 _ (xl_fin e hp))
    · rw [if_neg c] at e
      refine xw_ild (show xm_Imp g Γ 36 (xi_ild 3 37) from xs_iload_n hΓ dX5_block_36) rfl ?_
      refine xw_ild (show xm_Imp g Γ 37 (xi_ild 1 38) from xs_iload_n hΓ dX5_block_37) rfl ?_
      refine xw_sv2 (show xm_Imp g Γ 38 (xi_inv g M_X5_has 1 2 41) from xs_invS hG hΓ k_X5_has rfl q3037 q3038 dX5_block_38) rfl (fun Q X hQ => K_X5_has hG s.2 l1 rfl hQ) ?_
      refine xw_if (show xm_Imp g Γ 41 (xi_if (fun x => x = 0) 65 44) from xs_if_eq hΓ dX5_block_41 (by decide)) (fun c => ?_) (fun c => ?_)
      · rw [if_pos c] at e
        exact hB_65 _ _ _ e hp
      · rw [if_neg c] at e
        refine xw_ild (show xm_Imp g Γ 44 (xi_ild 3 45) from xs_iload_n hΓ dX5_block_44) rfl ?_
        obtain ⟨v3, e1, e⟩ := xo_b_s e
        refine xw_sv1 (show xm_Imp g Γ 45 (xi_inv g M_X5_bits 1 1 48) from xs_invS hG hΓ k_X5_bits rfl q3349 q3350 dX5_block_45) rfl (fun Q X hQ => K_X5_bits hG s.2 e1 hQ) ?_
        refine xw_ild (show xm_Imp g Γ 48 (xi_ild 2 49) from xs_iload_n hΓ dX5_block_48) rfl ?_
        obtain ⟨v4, e1, e⟩ := xo_b_s e
        refine xw_sv1 (show xm_Imp g Γ 49 (xi_inv g M_X5_bits 1 1 52) from xs_invS hG hΓ k_X5_bits rfl q3349 q3350 dX5_block_49) rfl (fun Q X hQ => K_X5_bits hG s.1 e1 hQ) ?_
        refine xw_ic (show xm_Imp g Γ 52 (xi_ic (fun x y => y < x) 65 55) from xs_icmp_gt hΓ dX5_block_52 (by decide)) (fun c => ?_) (fun c => ?_)
        · rw [if_pos c] at e
          exact hB_65 _ _ _ e hp
        · rw [if_neg c] at e
          refine xw_ald (show xm_Imp g Γ 55 (xi_ald 0 56) from xs_aload_n hΓ dX5_block_55) rfl ?_
          refine xw_ild (show xm_Imp g Γ 56 (xi_ild 3 57) from xs_iload_n hΓ dX5_block_56) rfl ?_
          obtain ⟨v5, e1, e⟩ := xo_b_s e
          refine xw_mv1 (show xm_Imp g Γ 57 (xi_vir g 4 M_X5_entropyOf 2 1 60) from xs_invV hG hΓ k_X5_entropyOf rfl (ci := 4) rfl q3393 q3395 qs106 dX5_block_57) rfl (fun Q X hQ => K_X5_entropyOf hG hM hB s.2 σ e1 hQ) ?_
          refine xw_if (show xm_Imp g Γ 60 (xi_if (fun x => x = 0) 63 65) from xs_if_ne hΓ dX5_block_60 (by decide)) (fun c => ?_) (fun c => ?_)
          · rw [if_pos c] at e
            refine xw_ild (show xm_Imp g Γ 63 (xi_ild 3 64) from xs_iload_n hΓ dX5_block_63) rfl ?_
            refine xw_ist (ls' := [some (.ref m), some (.int l1), some (.int s.2), some (.int s.2)]) (show xm_Imp g Γ 64 (xi_ist 2 65) from xs_istore_n hΓ dX5_block_64 (Nat.le_of_ble_eq_true rfl)) rfl ?_
            exact hB_65 _ _ _ e hp
          · rw [if_neg c] at e
            exact hB_65 _ _ _ e hp
  unfold F_X5_block at e
  refine xw_ald (show xm_Imp g Γ 0 (xi_ald 0 1) from xs_aload_n hΓ dX5_block_0) rfl ?_
  refine xw_ald (show xm_Imp g Γ 1 (xi_ald 0 2) from xs_aload_n hΓ dX5_block_1) rfl ?_
  refine xw_ild (show xm_Imp g Γ 2 (xi_ild 1 3) from xs_iload_n hΓ dX5_block_2) rfl ?_
  refine xw_mv1 (show xm_Imp g Γ 3 (xi_vir g 4 M_X5_isQubit 2 1 6) from xs_invV hG hΓ k_X5_isQubit rfl (ci := 4) rfl q2999 q3001 qs47 dX5_block_3) rfl (fun Q X hQ => K_X5_isQubit hG hM hB p1 σ rfl hQ) ?_
  obtain ⟨v1, e1, e⟩ := xo_b_s e
  refine xw_mv1 (show xm_Imp g Γ 6 (xi_vir g 4 M_X5_is 1 1 9) from xs_invV hG hΓ k_X5_is rfl (ci := 4) rfl q2986 q2988 qs46 dX5_block_6) rfl (fun Q X hQ => K_X5_is hG hM hB (F_X5_isQubit p1 σ) σ e1 hQ) ?_
  refine xw_if (show xm_Imp g Γ 9 (xi_if (fun x => x = 0) 12 14) from xs_if_ne hΓ dX5_block_9 (by decide)) (fun c => ?_) (fun c => ?_)
  · rw [if_pos c] at e
    refine xw_psh (v := (.int (0))) (show xm_Imp g Γ 12 (xi_psh (.int (0)) 13) from xs_iconst hΓ dX5_block_12 (by decide)) ?_
    exact xw_iret (show xm_Imp g Γ 13 (xi_iret .int _) from xs_ireturn hΓ rfl dX5_block_13) (xn_int _) (hP0 _ (xl_fin e hp))
  · rw [if_neg c] at e
    refine xw_ald (show xm_Imp g Γ 14 (xi_ald 0 15) from xs_aload_n hΓ dX5_block_14) rfl ?_
    obtain ⟨v2, e1, e⟩ := xo_b_s e
    refine xw_mu0 (show xm_Imp g Γ 15 (xi_vir g 4 M_X5_laysSupports 6 0 18) from xs_invV hG hΓ k_X5_laysSupports rfl (ci := 4) rfl q3389 q3391 qs105 dX5_block_15) rfl (fun Q X hQ => K_X5_laysSupports hG hM hB v1.2 e1 hQ) ?_
    refine xw_ald (show xm_Imp g Γ 18 (xi_ald 0 19) from xs_aload_n hΓ dX5_block_18) rfl ?_
    refine xw_mv0 (show xm_Imp g Γ 19 (xi_vir g 4 M_X5_sets 1 0 22) from xs_invV hG hΓ k_X5_sets rfl (ci := 4) rfl q3073 q3075 qs61 dX5_block_19) rfl (fun Q X hQ => K_X5_sets hG hM hB v2 rfl hQ) ?_
    refine xw_psh (v := (.int (1))) (show xm_Imp g Γ 22 (xi_psh (.int (1)) 23) from xs_iconst hΓ dX5_block_22 (by decide)) ?_
    refine xw_ii (show xm_Imp g Γ 23 (xi_ii (fun x y => x - y) 24) from xs_isub hΓ dX5_block_23) ?_
    refine xw_ist (ls' := [some (.ref m), some (.int p1), some (.int ((F_X5_sets v2) - 1)), none]) (show xm_Imp g Γ 24 (xi_ist 2 25) from xs_istore_n hΓ dX5_block_24 (Nat.le_of_ble_eq_true rfl)) rfl ?_
    refine xw_ald (show xm_Imp g Γ 25 (xi_ald 0 26) from xs_aload_n hΓ dX5_block_25) rfl ?_
    refine xw_mv0 (show xm_Imp g Γ 26 (xi_vir g 4 M_X5_sets 1 0 29) from xs_invV hG hΓ k_X5_sets rfl (ci := 4) rfl q3073 q3075 qs61 dX5_block_26) rfl (fun Q X hQ => K_X5_sets hG hM hB v2 rfl hQ) ?_
    refine xw_psh (v := (.int (1))) (show xm_Imp g Γ 29 (xi_psh (.int (1)) 30) from xs_iconst hΓ dX5_block_29 (by decide)) ?_
    refine xw_ii (show xm_Imp g Γ 30 (xi_ii (fun x y => x - y) 31) from xs_isub hΓ dX5_block_30) ?_
    refine xw_ist (ls' := [some (.ref m), some (.int p1), some (.int ((F_X5_sets v2) - 1)), some (.int ((F_X5_sets v2) - 1))]) (show xm_Imp g Γ 31 (xi_ist 3 32) from xs_istore_n hΓ dX5_block_31 (Nat.le_of_ble_eq_true rfl)) rfl ?_
    exact hL_32 _ _ _ _ e hp
noncomputable def B_X5_shared_28 (l1 : Int32) (l2 : Int32) (s1 : Int32) (σ : xM_S) : Option (Int32 × xM_S) :=
 xo_b (F_X5_is s1 σ) (fun v1 =>
 (if v1.1 = 0 then
 some ((0, v1.2)) else
 xo_b (F_X5_laysSupports v1.2) (fun v2 =>
 xo_b (F_X5_entropyOf l1 v2) (fun v3 =>
 xo_b (F_X5_entropyOf l2 v2) (fun v4 =>
 xo_b (F_X5_entropyOf (l1 ||| l2) v2) (fun v5 =>
 some (((v3 + v4) - v5, v2))))))))
noncomputable def F_X5_shared (p1 : Int32) (p2 : Int32) (σ : xM_S) : Option (Int32 × xM_S) :=
 B_X5_shared_28 p1 p2 (if (F_X5_isSet p1 σ) = 0 then 0 else (if (F_X5_isSet p2 σ) = 0 then 0 else (if (p1 &&& p2) = 0 then 1 else 0))) σ
set_option maxHeartbeats 4000000 in
theorem K_X5_shared {g : xm_G} (hG : xm_Gw g) {h0 : xm_H} {m : Nat} {ad : Nat → Nat} (hM : xM_ok h0 m ad) (hB : xk_B g h0) (p1 : Int32) (p2 : Int32) (σ : xM_S) {o : Int32 × xM_S} (e : F_X5_shared p1 p2 σ = some o) {Q : xm_P} {X : xm_X} (hQ : Q (some (.int o.1)) (xMp h0 m ad o.2)) : xm_Run g M_X5_shared 7 [.ref m, .int p1, .int p2] (xMp h0 m ad σ) 0 0 Q X := by
  refine xm_Run.of pn_StringTableauModel (Nat.le_of_ble_eq_true rfl) (fun Γ hΓ => ?_)
  obtain ⟨P0, hP0, hp⟩ : ∃ P : Int32 × xM_S → Prop, (∀ o, P o → Q (some (.int o.1)) (xMp h0 m ad o.2)) ∧ P o := ⟨fun o => Q (some (.int o.1)) (xMp h0 m ad o.2), fun _ h => h, hQ⟩
  clear hQ
  show xm_W g Γ 0 [some (.ref m), some (.int p1), some (.int p2)] [] (xMp h0 m ad σ) 0 0
  have hB_28 : ∀ (l1 : Int32) (l2 : Int32) (s1 : Int32) (σ : xM_S) (o : Int32 × xM_S), B_X5_shared_28 l1 l2 s1 σ = some o → P0 o → xm_W g Γ 28 [some (.ref m), some (.int l1), some (.int l2)] [.int s1, .ref m] (xMp h0 m ad σ) 0 0 := by
    intro l1 l2 s1 σ o e hp
    unfold B_X5_shared_28 at e
    obtain ⟨v1, e1, e⟩ := xo_b_s e
    refine xw_mv1 (show xm_Imp g Γ 28 (xi_vir g 4 M_X5_is 1 1 31) from xs_invV hG hΓ k_X5_is rfl (ci := 4) rfl q2986 q2988 qs46 dX5_shared_28) rfl (fun Q X hQ => K_X5_is hG hM hB s1 σ e1 hQ) ?_
    refine xw_if (show xm_Imp g Γ 31 (xi_if (fun x => x = 0) 34 36) from xs_if_ne hΓ dX5_shared_31 (by decide)) (fun c => ?_) (fun c => ?_)
    · rw [if_pos c] at e
      refine xw_psh (v := (.int (0))) (show xm_Imp g Γ 34 (xi_psh (.int (0)) 35) from xs_iconst hΓ dX5_shared_34 (by decide)) ?_
      exact xw_iret (show xm_Imp g Γ 35 (xi_iret .int _) from xs_ireturn hΓ rfl dX5_shared_35) (xn_int _) (hP0 _ (xl_fin e hp))
    · rw [if_neg c] at e
      refine xw_ald (show xm_Imp g Γ 36 (xi_ald 0 37) from xs_aload_n hΓ dX5_shared_36) rfl ?_
      obtain ⟨v2, e1, e⟩ := xo_b_s e
      refine xw_mu0 (show xm_Imp g Γ 37 (xi_vir g 4 M_X5_laysSupports 6 0 40) from xs_invV hG hΓ k_X5_laysSupports rfl (ci := 4) rfl q3389 q3391 qs105 dX5_shared_37) rfl (fun Q X hQ => K_X5_laysSupports hG hM hB v1.2 e1 hQ) ?_
      refine xw_ald (show xm_Imp g Γ 40 (xi_ald 0 41) from xs_aload_n hΓ dX5_shared_40) rfl ?_
      refine xw_ild (show xm_Imp g Γ 41 (xi_ild 1 42) from xs_iload_n hΓ dX5_shared_41) rfl ?_
      obtain ⟨v3, e1, e⟩ := xo_b_s e
      refine xw_mv1 (show xm_Imp g Γ 42 (xi_vir g 4 M_X5_entropyOf 2 1 45) from xs_invV hG hΓ k_X5_entropyOf rfl (ci := 4) rfl q3393 q3395 qs106 dX5_shared_42) rfl (fun Q X hQ => K_X5_entropyOf hG hM hB l1 v2 e1 hQ) ?_
      refine xw_ald (show xm_Imp g Γ 45 (xi_ald 0 46) from xs_aload_n hΓ dX5_shared_45) rfl ?_
      refine xw_ild (show xm_Imp g Γ 46 (xi_ild 2 47) from xs_iload_n hΓ dX5_shared_46) rfl ?_
      obtain ⟨v4, e1, e⟩ := xo_b_s e
      refine xw_mv1 (show xm_Imp g Γ 47 (xi_vir g 4 M_X5_entropyOf 2 1 50) from xs_invV hG hΓ k_X5_entropyOf rfl (ci := 4) rfl q3393 q3395 qs106 dX5_shared_47) rfl (fun Q X hQ => K_X5_entropyOf hG hM hB l2 v2 e1 hQ) ?_
      refine xw_ii (show xm_Imp g Γ 50 (xi_ii (fun x y => x + y) 51) from xs_iadd hΓ dX5_shared_50) ?_
      refine xw_ald (show xm_Imp g Γ 51 (xi_ald 0 52) from xs_aload_n hΓ dX5_shared_51) rfl ?_
      refine xw_ild (show xm_Imp g Γ 52 (xi_ild 1 53) from xs_iload_n hΓ dX5_shared_52) rfl ?_
      refine xw_ild (show xm_Imp g Γ 53 (xi_ild 2 54) from xs_iload_n hΓ dX5_shared_53) rfl ?_
      refine xw_ii (show xm_Imp g Γ 54 (xi_ii (fun x y => x ||| y) 55) from xs_ior hΓ dX5_shared_54) ?_
      obtain ⟨v5, e1, e⟩ := xo_b_s e
      refine xw_mv1 (show xm_Imp g Γ 55 (xi_vir g 4 M_X5_entropyOf 2 1 58) from xs_invV hG hΓ k_X5_entropyOf rfl (ci := 4) rfl q3393 q3395 qs106 dX5_shared_55) rfl (fun Q X hQ => K_X5_entropyOf hG hM hB (l1 ||| l2) v2 e1 hQ) ?_
      refine xw_ii (show xm_Imp g Γ 58 (xi_ii (fun x y => x - y) 59) from xs_isub hΓ dX5_shared_58) ?_
      exact xw_iret (show xm_Imp g Γ 59 (xi_iret .int _) from xs_ireturn hΓ rfl dX5_shared_59) (xn_int _) (hP0 _ (xl_fin e hp))
  unfold F_X5_shared at e
  refine xw_ald (show xm_Imp g Γ 0 (xi_ald 0 1) from xs_aload_n hΓ dX5_shared_0) rfl ?_
  refine xw_ald (show xm_Imp g Γ 1 (xi_ald 0 2) from xs_aload_n hΓ dX5_shared_1) rfl ?_
  refine xw_ild (show xm_Imp g Γ 2 (xi_ild 1 3) from xs_iload_n hΓ dX5_shared_2) rfl ?_
  refine xw_mv1 (show xm_Imp g Γ 3 (xi_vir g 4 M_X5_isSet 2 1 6) from xs_invV hG hΓ k_X5_isSet rfl (ci := 4) rfl q3333 q3335 qs98 dX5_shared_3) rfl (fun Q X hQ => K_X5_isSet hG hM hB p1 σ rfl hQ) ?_
  refine xw_if (show xm_Imp g Γ 6 (xi_if (fun x => x = 0) 27 9) from xs_if_eq hΓ dX5_shared_6 (by decide)) (fun c => ?_) (fun c => ?_)
  · rw [if_pos c] at e
    refine xw_psh (v := (.int (0))) (show xm_Imp g Γ 27 (xi_psh (.int (0)) 28) from xs_iconst hΓ dX5_shared_27 (by decide)) ?_
    exact hB_28 _ _ _ _ _ e hp
  · rw [if_neg c] at e
    refine xw_ald (show xm_Imp g Γ 9 (xi_ald 0 10) from xs_aload_n hΓ dX5_shared_9) rfl ?_
    refine xw_ild (show xm_Imp g Γ 10 (xi_ild 2 11) from xs_iload_n hΓ dX5_shared_10) rfl ?_
    refine xw_mv1 (show xm_Imp g Γ 11 (xi_vir g 4 M_X5_isSet 2 1 14) from xs_invV hG hΓ k_X5_isSet rfl (ci := 4) rfl q3333 q3335 qs98 dX5_shared_11) rfl (fun Q X hQ => K_X5_isSet hG hM hB p2 σ rfl hQ) ?_
    refine xw_if (show xm_Imp g Γ 14 (xi_if (fun x => x = 0) 27 17) from xs_if_eq hΓ dX5_shared_14 (by decide)) (fun c => ?_) (fun c => ?_)
    · rw [if_pos c] at e
      refine xw_psh (v := (.int (0))) (show xm_Imp g Γ 27 (xi_psh (.int (0)) 28) from xs_iconst hΓ dX5_shared_27 (by decide)) ?_
      exact hB_28 _ _ _ _ _ e hp
    · rw [if_neg c] at e
      refine xw_ild (show xm_Imp g Γ 17 (xi_ild 1 18) from xs_iload_n hΓ dX5_shared_17) rfl ?_
      refine xw_ild (show xm_Imp g Γ 18 (xi_ild 2 19) from xs_iload_n hΓ dX5_shared_18) rfl ?_
      refine xw_ii (show xm_Imp g Γ 19 (xi_ii (fun x y => x &&& y) 20) from xs_iand hΓ dX5_shared_19) ?_
      refine xw_if (show xm_Imp g Γ 20 (xi_if (fun x => x = 0) 23 27) from xs_if_ne hΓ dX5_shared_20 (by decide)) (fun c => ?_) (fun c => ?_)
      · rw [if_pos c] at e
        refine xw_psh (v := (.int (1))) (show xm_Imp g Γ 23 (xi_psh (.int (1)) 24) from xs_iconst hΓ dX5_shared_23 (by decide)) ?_
        refine xw_goto (show xm_Imp g Γ 24 (xi_goto 28) from xs_goto hΓ dX5_shared_24 (by decide)) ?_
        exact hB_28 _ _ _ _ _ e hp
      · rw [if_neg c] at e
        refine xw_psh (v := (.int (0))) (show xm_Imp g Γ 27 (xi_psh (.int (0)) 28) from xs_iconst hΓ dX5_shared_27 (by decide)) ?_
        exact hB_28 _ _ _ _ _ e hp
noncomputable def B_X5_mostEntangled_65 (l1 : Int32) (l2 : Int32) (l3 : Int32) (σ : xM_S) : Option ((Int32 × Int32) ⊕ (Int32 × xM_S)) :=
 some (Sum.inl (l2, l3 + 1))
noncomputable def B_X5_mostEntangled_63 (l1 : Int32) (l3 : Int32) (σ : xM_S) : Option ((Int32 × Int32) ⊕ (Int32 × xM_S)) :=
 B_X5_mostEntangled_65 l1 l3 l3 σ
noncomputable def D_X5_mostEntangled_30 (l1 : Int32) (σ : xM_S) (s : Int32 × Int32) : Option ((Int32 × Int32) ⊕ (Int32 × xM_S)) :=
 (if (F_X5_sets σ) ≤ s.2 then
 xl_o (some ((s.1, σ))) else
 xo_b (F_X5_bits s.2) (fun v3 =>
 (if v3 = l1 then
 (if s.1 = 0 then
 B_X5_mostEntangled_63 l1 s.2 σ else
 xo_b (F_X5_entropyOf s.2 σ) (fun v4 =>
 xo_b (F_X5_entropyOf s.1 σ) (fun v5 =>
 B_X5_mostEntangled_65 l1 (if v4 ≤ v5 then s.1 else s.2) s.2 σ))) else
 B_X5_mostEntangled_65 l1 s.1 s.2 σ)))
noncomputable def L_X5_mostEntangled_30 (l1 : Int32) (σ : xM_S) (s : Int32 × Int32) : Option (Int32 × xM_S) := xl_loop (D_X5_mostEntangled_30 l1 σ) s
noncomputable def F_X5_mostEntangled (p1 : Int32) (σ : xM_S) : Option (Int32 × xM_S) :=
 xo_b (F_X5_is (F_X5_isIn p1.toInt64 1 ((σ.2 1 0).toInt64)) σ) (fun v1 =>
 (if v1.1 = 0 then
 some ((0, v1.2)) else
 xo_b (F_X5_laysSupports v1.2) (fun v2 =>
 L_X5_mostEntangled_30 p1 v2 (0, 1))))
set_option maxHeartbeats 4000000 in
theorem K_X5_mostEntangled {g : xm_G} (hG : xm_Gw g) {h0 : xm_H} {m : Nat} {ad : Nat → Nat} (hM : xM_ok h0 m ad) (hB : xk_B g h0) (p1 : Int32) (σ : xM_S) {o : Int32 × xM_S} (e : F_X5_mostEntangled p1 σ = some o) {Q : xm_P} {X : xm_X} (hQ : Q (some (.int o.1)) (xMp h0 m ad o.2)) : xm_Run g M_X5_mostEntangled 7 [.ref m, .int p1] (xMp h0 m ad σ) 0 0 Q X := by
  refine xm_Run.of pn_StringTableauModel (Nat.le_of_ble_eq_true rfl) (fun Γ hΓ => ?_)
  obtain ⟨P0, hP0, hp⟩ : ∃ P : Int32 × xM_S → Prop, (∀ o, P o → Q (some (.int o.1)) (xMp h0 m ad o.2)) ∧ P o := ⟨fun o => Q (some (.int o.1)) (xMp h0 m ad o.2), fun _ h => h, hQ⟩
  clear hQ
  show xm_W g Γ 0 [some (.ref m), some (.int p1), none, none] [] (xMp h0 m ad σ) 0 0
  have hL_30 : ∀ (l1 : Int32) (σ : xM_S) (s : Int32 × Int32) (o : Int32 × xM_S), L_X5_mostEntangled_30 l1 σ s = some o → P0 o → xm_W g Γ 30 [some (.ref m), some (.int l1), some (.int s.1), some (.int s.2)] [] (xMp h0 m ad σ) 0 0 := by
    intro l1 σ
    refine xl_rule (WS := fun s : Int32 × Int32 => xm_W g Γ 30 [some (.ref m), some (.int l1), some (.int s.1), some (.int s.2)] [] (xMp h0 m ad σ) 0 0) ?_
    intro s o e hp
    obtain ⟨P1, hP1, hp⟩ : ∃ P : (Int32 × Int32) ⊕ (Int32 × xM_S) → Prop, (∀ o, P o → xl_P (fun s : Int32 × Int32 => xm_W g Γ 30 [some (.ref m), some (.int l1), some (.int s.1), some (.int s.2)] [] (xMp h0 m ad σ) 0 0) P0 o) ∧ P o := ⟨_, fun _ h => h, hp⟩
    have hB_65 : ∀ (l2 : Int32) (l3 : Int32) (o : (Int32 × Int32) ⊕ (Int32 × xM_S)), B_X5_mostEntangled_65 l1 l2 l3 σ = some o → P1 o → xm_W g Γ 65 [some (.ref m), some (.int l1), some (.int l2), some (.int l3)] [] (xMp h0 m ad σ) 0 0 := by
      intro l2 l3 o e hp
      unfold B_X5_mostEntangled_65 at e
      refine xw_inc (v := (1)) (ls' := [some (.ref m), some (.int l1), some (.int l2), some (.int (l3 + 1))]) (show xm_Imp g Γ 65 (xi_inc 3 (1) 68) from xs_iinc hΓ dX5_mostEntangled_65 (by decide) (Nat.le_of_ble_eq_true rfl)) rfl rfl ?_
      refine xw_goto (show xm_Imp g Γ 68 (xi_goto 30) from xs_goto hΓ dX5_mostEntangled_68 (by decide)) ?_
      have hq := xl_P_inl (hP1 _ (xl_fin e hp)); exact hq
    have hB_63 : ∀ (l3 : Int32) (o : (Int32 × Int32) ⊕ (Int32 × xM_S)), B_X5_mostEntangled_63 l1 l3 σ = some o → P1 o → xm_W g Γ 63 [some (.ref m), some (.int l1), none, some (.int l3)] [] (xMp h0 m ad σ) 0 0 := by
      intro l3 o e hp
      unfold B_X5_mostEntangled_63 at e
      refine xw_ild (show xm_Imp g Γ 63 (xi_ild 3 64) from xs_iload_n hΓ dX5_mostEntangled_63) rfl ?_
      refine xw_ist (ls' := [some (.ref m), some (.int l1), some (.int l3), some (.int l3)]) (show xm_Imp g Γ 64 (xi_ist 2 65) from xs_istore_n hΓ dX5_mostEntangled_64 (Nat.le_of_ble_eq_true rfl)) rfl ?_
      exact hB_65 _ _ _ e hp
    unfold D_X5_mostEntangled_30 at e
    refine xw_ild (show xm_Imp g Γ 30 (xi_ild 3 31) from xs_iload_n hΓ dX5_mostEntangled_30) rfl ?_
    refine xw_ald (show xm_Imp g Γ 31 (xi_ald 0 32) from xs_aload_n hΓ dX5_mostEntangled_31) rfl ?_
    refine xw_mv0 (show xm_Imp g Γ 32 (xi_vir g 4 M_X5_sets 1 0 35) from xs_invV hG hΓ k_X5_sets rfl (ci := 4) rfl q3073 q3075 qs61 dX5_mostEntangled_32) rfl (fun Q X hQ => K_X5_sets hG hM hB σ rfl hQ) ?_
    refine xw_ic (show xm_Imp g Γ 35 (xi_ic (fun x y => y ≤ x) 71 38) from xs_icmp_ge hΓ dX5_mostEntangled_35 (by decide)) (fun c => ?_) (fun c => ?_)
    · rw [if_pos c] at e
      obtain ⟨_, e, hp⟩ := xl_o_s e (hP1 _ hp)
      refine xw_ild (show xm_Imp g Γ 71 (xi_ild 2 72) from xs_iload_n hΓ dX5_mostEntangled_71) rfl ?_
      exact xw_iret (show xm_Imp g Γ 72 (xi_iret .int _) from xs_ireturn hΓ rfl dX5_mostEntangled_72) (xn_int _) (hP0 _ (xl_fin e hp))
    · rw [if_neg c] at e
      refine xw_ild (show xm_Imp g Γ 38 (xi_ild 3 39) from xs_iload_n hΓ dX5_mostEntangled_38) rfl ?_
      obtain ⟨v3, e1, e⟩ := xo_b_s e
      refine xw_sv1 (show xm_Imp g Γ 39 (xi_inv g M_X5_bits 1 1 42) from xs_invS hG hΓ k_X5_bits rfl q3349 q3350 dX5_mostEntangled_39) rfl (fun Q X hQ => K_X5_bits hG s.2 e1 hQ) ?_
      refine xw_ild (show xm_Imp g Γ 42 (xi_ild 1 43) from xs_iload_n hΓ dX5_mostEntangled_42) rfl ?_
      refine xw_ic (show xm_Imp g Γ 43 (xi_ic (fun x y => x = y) 46 65) from xs_icmp_ne hΓ dX5_mostEntangled_43 (by decide)) (fun c => ?_) (fun c => ?_)
      · rw [if_pos c] at e
        refine xw_ild (show xm_Imp g Γ 46 (xi_ild 2 47) from xs_iload_n hΓ dX5_mostEntangled_46) rfl ?_
        refine xw_if (show xm_Imp g Γ 47 (xi_if (fun x => x = 0) 63 50) from xs_if_eq hΓ dX5_mostEntangled_47 (by decide)) (fun c => ?_) (fun c => ?_)
        · rw [if_pos c] at e
          exact xm_lx (hB_63 _ _ e hp) (And.intro rfl (And.intro rfl (And.intro rfl (trivial))))
        · rw [if_neg c] at e
          refine xw_ald (show xm_Imp g Γ 50 (xi_ald 0 51) from xs_aload_n hΓ dX5_mostEntangled_50) rfl ?_
          refine xw_ild (show xm_Imp g Γ 51 (xi_ild 3 52) from xs_iload_n hΓ dX5_mostEntangled_51) rfl ?_
          obtain ⟨v4, e1, e⟩ := xo_b_s e
          refine xw_mv1 (show xm_Imp g Γ 52 (xi_vir g 4 M_X5_entropyOf 2 1 55) from xs_invV hG hΓ k_X5_entropyOf rfl (ci := 4) rfl q3393 q3395 qs106 dX5_mostEntangled_52) rfl (fun Q X hQ => K_X5_entropyOf hG hM hB s.2 σ e1 hQ) ?_
          refine xw_ald (show xm_Imp g Γ 55 (xi_ald 0 56) from xs_aload_n hΓ dX5_mostEntangled_55) rfl ?_
          refine xw_ild (show xm_Imp g Γ 56 (xi_ild 2 57) from xs_iload_n hΓ dX5_mostEntangled_56) rfl ?_
          obtain ⟨v5, e1, e⟩ := xo_b_s e
          refine xw_mv1 (show xm_Imp g Γ 57 (xi_vir g 4 M_X5_entropyOf 2 1 60) from xs_invV hG hΓ k_X5_entropyOf rfl (ci := 4) rfl q3393 q3395 qs106 dX5_mostEntangled_57) rfl (fun Q X hQ => K_X5_entropyOf hG hM hB s.1 σ e1 hQ) ?_
          refine xw_ic (show xm_Imp g Γ 60 (xi_ic (fun x y => x ≤ y) 65 63) from xs_icmp_le hΓ dX5_mostEntangled_60 (by decide)) (fun c => ?_) (fun c => ?_)
          · rw [if_pos c] at e
            exact hB_65 _ _ _ e hp
          · rw [if_neg c] at e
            refine xw_ild (show xm_Imp g Γ 63 (xi_ild 3 64) from xs_iload_n hΓ dX5_mostEntangled_63) rfl ?_
            refine xw_ist (ls' := [some (.ref m), some (.int l1), some (.int s.2), some (.int s.2)]) (show xm_Imp g Γ 64 (xi_ist 2 65) from xs_istore_n hΓ dX5_mostEntangled_64 (Nat.le_of_ble_eq_true rfl)) rfl ?_
            exact hB_65 _ _ _ e hp
      · rw [if_neg c] at e
        exact hB_65 _ _ _ e hp
  unfold F_X5_mostEntangled at e
  refine xw_ald (show xm_Imp g Γ 0 (xi_ald 0 1) from xs_aload_n hΓ dX5_mostEntangled_0) rfl ?_
  refine xw_ild (show xm_Imp g Γ 1 (xi_ild 1 2) from xs_iload_n hΓ dX5_mostEntangled_1) rfl ?_
  refine xw_i2l (show xm_Imp g Γ 2 (xi_i2l 3) from xs_i2l hΓ dX5_mostEntangled_2) ?_
  refine xw_psh (v := (.long 1)) (show xm_Imp g Γ 3 (xi_psh (.long 1) 4) from xs_lconst hΓ dX5_mostEntangled_3 (by decide)) ?_
  refine xw_ald (show xm_Imp g Γ 4 (xi_ald 0 5) from xs_aload_n hΓ dX5_mostEntangled_4) rfl ?_
  refine xw_mga (k := 1) (show xm_Imp g Γ 5 (xi_get 4 1 8) from xs_get hG hΓ (ci := 4) (kf := 1) rfl (Nat.le_of_ble_eq_true rfl) q2851 dX5_mostEntangled_5) (fun _ => rfl) ?_
  refine xw_psh (v := (.int (0))) (show xm_Imp g Γ 8 (xi_psh (.int (0)) 9) from xs_iconst hΓ dX5_mostEntangled_8 (by decide)) ?_
  refine xw_mial (k := 1) (j := 0) (v := (σ.2 1 0)) (show xm_Imp g Γ 9 (xi_ial 10) from xs_ial hG hΓ dX5_mostEntangled_9) hM (by decide) rfl rfl rfl ?_
  refine xw_i2l (show xm_Imp g Γ 10 (xi_i2l 11) from xs_i2l hΓ dX5_mostEntangled_10) ?_
  refine xw_sv3 (show xm_Imp g Γ 11 (xi_inv g M_X5_isIn 1 3 14) from xs_invS hG hΓ k_X5_isIn rfl q2996 q2997 dX5_mostEntangled_11) rfl (fun Q X hQ => K_X5_isIn hG p1.toInt64 1 ((σ.2 1 0).toInt64) rfl hQ) ?_
  obtain ⟨v1, e1, e⟩ := xo_b_s e
  refine xw_mv1 (show xm_Imp g Γ 14 (xi_vir g 4 M_X5_is 1 1 17) from xs_invV hG hΓ k_X5_is rfl (ci := 4) rfl q2986 q2988 qs46 dX5_mostEntangled_14) rfl (fun Q X hQ => K_X5_is hG hM hB (F_X5_isIn p1.toInt64 1 ((σ.2 1 0).toInt64)) σ e1 hQ) ?_
  refine xw_if (show xm_Imp g Γ 17 (xi_if (fun x => x = 0) 20 22) from xs_if_ne hΓ dX5_mostEntangled_17 (by decide)) (fun c => ?_) (fun c => ?_)
  · rw [if_pos c] at e
    refine xw_psh (v := (.int (0))) (show xm_Imp g Γ 20 (xi_psh (.int (0)) 21) from xs_iconst hΓ dX5_mostEntangled_20 (by decide)) ?_
    exact xw_iret (show xm_Imp g Γ 21 (xi_iret .int _) from xs_ireturn hΓ rfl dX5_mostEntangled_21) (xn_int _) (hP0 _ (xl_fin e hp))
  · rw [if_neg c] at e
    refine xw_ald (show xm_Imp g Γ 22 (xi_ald 0 23) from xs_aload_n hΓ dX5_mostEntangled_22) rfl ?_
    obtain ⟨v2, e1, e⟩ := xo_b_s e
    refine xw_mu0 (show xm_Imp g Γ 23 (xi_vir g 4 M_X5_laysSupports 6 0 26) from xs_invV hG hΓ k_X5_laysSupports rfl (ci := 4) rfl q3389 q3391 qs105 dX5_mostEntangled_23) rfl (fun Q X hQ => K_X5_laysSupports hG hM hB v1.2 e1 hQ) ?_
    refine xw_psh (v := (.int (0))) (show xm_Imp g Γ 26 (xi_psh (.int (0)) 27) from xs_iconst hΓ dX5_mostEntangled_26 (by decide)) ?_
    refine xw_ist (ls' := [some (.ref m), some (.int p1), some (.int 0), none]) (show xm_Imp g Γ 27 (xi_ist 2 28) from xs_istore_n hΓ dX5_mostEntangled_27 (Nat.le_of_ble_eq_true rfl)) rfl ?_
    refine xw_psh (v := (.int (1))) (show xm_Imp g Γ 28 (xi_psh (.int (1)) 29) from xs_iconst hΓ dX5_mostEntangled_28 (by decide)) ?_
    refine xw_ist (ls' := [some (.ref m), some (.int p1), some (.int 0), some (.int 1)]) (show xm_Imp g Γ 29 (xi_ist 3 30) from xs_istore_n hΓ dX5_mostEntangled_29 (Nat.le_of_ble_eq_true rfl)) rfl ?_
    exact hL_30 _ _ _ _ e hp
