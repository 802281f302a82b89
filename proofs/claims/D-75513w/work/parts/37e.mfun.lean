/-! THE REFERENCE as functions (printed by gen/mkmfun.py) -/
set_option maxRecDepth 100000
noncomputable def B_X5_readsString_138 (l1 : Int32) (l2 : Int32) (s1 : Int32) (σ : xM_S) : Option (xM_S) :=
 xo_b (F_X5_lays 4 l1 (F_X5_needs s1 3 σ)) (fun v1 =>
 xo_b (F_X5_lays 5 l2 v1) (fun v2 =>
 xo_b (F_X5_goOn v2) (fun v3 =>
 some v3)))
noncomputable def B_X5_readsString_110 (l1 : Int32) (l2 : Int32) (σ : xM_S) : Option (xM_S) :=
 B_X5_readsString_138 l1 l2 (if ((σ.1 22) - (σ.1 23)) = (σ.1 29) then (if (l1 ||| l2) = 0 then 0 else 1) else 0) σ
noncomputable def B_X5_readsString_104 (l1 : Int32) (l2 : Int32) (l3 : Int32) (σ : xM_S) : Option ((Int32 × Int32 × Int32) ⊕ (xM_S)) :=
 some (Sum.inl (l1, l2, l3 + 1))
noncomputable def B_X5_readsString_84 (l1 : Int32) (l2 : Int32) (l3 : Int32) (l4 : Int32) (σ : xM_S) : Option ((Int32 × Int32 × Int32) ⊕ (xM_S)) :=
 B_X5_readsString_104 l1 (if l4 = 89 then l2 ||| (1 <<< (l3 &&& 31)) else (if l4 = 90 then l2 ||| (1 <<< (l3 &&& 31)) else l2)) l3 σ
noncomputable def D_X5_readsString_32 (σ : xM_S) (s : Int32 × Int32 × Int32) : Option ((Int32 × Int32 × Int32) ⊕ (xM_S)) :=
 (if ((σ.1 22) - (σ.1 23)) ≤ s.2.2 then
 xl_o (B_X5_readsString_110 s.1 s.2.1 σ) else
 (if 8 ≤ s.2.2 then
 xl_o (B_X5_readsString_110 s.1 s.2.1 σ) else
 xo_b (xa_ix 700 ((σ.1 23) + s.2.2)) (fun j4 =>
 B_X5_readsString_84 (if (σ.2 19 j4) = 88 then s.1 ||| (1 <<< (s.2.2 &&& 31)) else (if (σ.2 19 j4) = 89 then s.1 ||| (1 <<< (s.2.2 &&& 31)) else s.1)) s.2.1 s.2.2 (σ.2 19 j4) σ)))
noncomputable def L_X5_readsString_32 (σ : xM_S) (s : Int32 × Int32 × Int32) : Option (xM_S) := xl_loop (D_X5_readsString_32 σ) s
noncomputable def B_X5_readsString_14 (s1 : Int32) (σ : xM_S) : Option (xM_S) :=
 (if (F_X5_fine (F_X5_needs s1 1 σ)) = 0 then
 some (F_X5_needs s1 1 σ) else
 L_X5_readsString_32 (F_X5_needs s1 1 σ) (0, 0, 0))
noncomputable def F_X5_readsString (σ : xM_S) : Option (xM_S) :=
 B_X5_readsString_14 (if (σ.1 24) = 2 then 1 else 0) σ
set_option maxHeartbeats 4000000 in
theorem K_X5_readsString {g : xm_G} (hG : xm_Gw g) {h0 : xm_H} {m : Nat} {ad : Nat → Nat} (hM : xM_ok h0 m ad) (hB : xk_B g h0)  (σ : xM_S) {o : xM_S} (e : F_X5_readsString σ = some o) {Q : xm_P} {X : xm_X} (hQ : Q none (xMp h0 m ad o)) : xm_Run g M_X5_readsString 15 [.ref m] (xMp h0 m ad σ) 0 0 Q X := by
  refine xm_Run.of pn_StringTableauModel (Nat.le_of_ble_eq_true rfl) (fun Γ hΓ => ?_)
  obtain ⟨P0, hP0, hp⟩ : ∃ P : xM_S → Prop, (∀ o, P o → Q none (xMp h0 m ad o)) ∧ P o := ⟨fun o => Q none (xMp h0 m ad o), fun _ h => h, hQ⟩
  clear hQ
  show xm_W g Γ 0 [some (.ref m), none, none, none, none] [] (xMp h0 m ad σ) 0 0
  have hB_138 : ∀ (l1 : Int32) (l2 : Int32) (s1 : Int32) (σ : xM_S) (o : xM_S), B_X5_readsString_138 l1 l2 s1 σ = some o → P0 o → xm_W g Γ 138 [some (.ref m), some (.int l1), some (.int l2), none, none] [.int s1, .ref m] (xMp h0 m ad σ) 0 0 := by
    intro l1 l2 s1 σ o e hp
    unfold B_X5_readsString_138 at e
    refine xw_psh (v := (.int (3))) (show xm_Imp g Γ 138 (xi_psh (.int (3)) 139) from xs_iconst hΓ dX5_readsString_138 (by decide)) ?_
    refine xw_mu2 (show xm_Imp g Γ 139 (xi_vir g 4 M_X5_needs 1 2 142) from xs_invV hG hΓ k_X5_needs rfl (ci := 4) rfl q3207 q3209 qs80 dX5_readsString_139) rfl (fun Q X hQ => K_X5_needs hG hM hB s1 3 σ rfl hQ) ?_
    refine xw_ald (show xm_Imp g Γ 142 (xi_ald 0 143) from xs_aload_n hΓ dX5_readsString_142) rfl ?_
    refine xw_psh (v := (.int (4))) (show xm_Imp g Γ 143 (xi_psh (.int (4)) 144) from xs_iconst hΓ dX5_readsString_143 (by decide)) ?_
    refine xw_ild (show xm_Imp g Γ 144 (xi_ild 1 145) from xs_iload_n hΓ dX5_readsString_144) rfl ?_
    obtain ⟨v1, e1, e⟩ := xo_b_s e
    refine xw_mu2 (show xm_Imp g Γ 145 (xi_vir g 4 M_X5_lays 2 2 148) from xs_invV hG hΓ k_X5_lays rfl (ci := 4) rfl q3240 q3242 qs88 dX5_readsString_145) rfl (fun Q X hQ => K_X5_lays hG hM hB 4 l1 (F_X5_needs s1 3 σ) e1 hQ) ?_
    refine xw_ald (show xm_Imp g Γ 148 (xi_ald 0 149) from xs_aload_n hΓ dX5_readsString_148) rfl ?_
    refine xw_psh (v := (.int (5))) (show xm_Imp g Γ 149 (xi_psh (.int (5)) 150) from xs_iconst hΓ dX5_readsString_149 (by decide)) ?_
    refine xw_ild (show xm_Imp g Γ 150 (xi_ild 2 151) from xs_iload_n hΓ dX5_readsString_150) rfl ?_
    obtain ⟨v2, e1, e⟩ := xo_b_s e
    refine xw_mu2 (show xm_Imp g Γ 151 (xi_vir g 4 M_X5_lays 2 2 154) from xs_invV hG hΓ k_X5_lays rfl (ci := 4) rfl q3240 q3242 qs88 dX5_readsString_151) rfl (fun Q X hQ => K_X5_lays hG hM hB 5 l2 v1 e1 hQ) ?_
    refine xw_ald (show xm_Imp g Γ 154 (xi_ald 0 155) from xs_aload_n hΓ dX5_readsString_154) rfl ?_
    obtain ⟨v3, e1, e⟩ := xo_b_s e
    refine xw_mu0 (show xm_Imp g Γ 155 (xi_vir g 4 M_X5_goOn 14 0 158) from xs_invV hG hΓ k_X5_goOn rfl (ci := 4) rfl q3211 q3213 qs81 dX5_readsString_155) rfl (fun Q X hQ => K_X5_goOn hG hM hB v2 e1 hQ) ?_
    exact xw_vret (show xm_Imp g Γ 158 (xi_vret _) from xs_return hΓ rfl dX5_readsString_158) (hP0 _ (xl_fin e hp))
  have hB_110 : ∀ (l1 : Int32) (l2 : Int32) (σ : xM_S) (o : xM_S), B_X5_readsString_110 l1 l2 σ = some o → P0 o → xm_W g Γ 110 [some (.ref m), some (.int l1), some (.int l2), none, none] [] (xMp h0 m ad σ) 0 0 := by
    intro l1 l2 σ o e hp
    unfold B_X5_readsString_110 at e
    refine xw_ald (show xm_Imp g Γ 110 (xi_ald 0 111) from xs_aload_n hΓ dX5_readsString_110) rfl ?_
    refine xw_ald (show xm_Imp g Γ 111 (xi_ald 0 112) from xs_aload_n hΓ dX5_readsString_111) rfl ?_
    refine xw_mgi (v := (σ.1 22)) (show xm_Imp g Γ 112 (xi_get 4 22 115) from xs_get hG hΓ (ci := 4) (kf := 22) rfl (Nat.le_of_ble_eq_true rfl) q2872 dX5_readsString_112) (fun _ => rfl) rfl ?_
    refine xw_ald (show xm_Imp g Γ 115 (xi_ald 0 116) from xs_aload_n hΓ dX5_readsString_115) rfl ?_
    refine xw_mgi (v := (σ.1 23)) (show xm_Imp g Γ 116 (xi_get 4 23 119) from xs_get hG hΓ (ci := 4) (kf := 23) rfl (Nat.le_of_ble_eq_true rfl) q2873 dX5_readsString_116) (fun _ => rfl) rfl ?_
    refine xw_ii (show xm_Imp g Γ 119 (xi_ii (fun x y => x - y) 120) from xs_isub hΓ dX5_readsString_119) ?_
    refine xw_ald (show xm_Imp g Γ 120 (xi_ald 0 121) from xs_aload_n hΓ dX5_readsString_120) rfl ?_
    refine xw_mgi (v := (σ.1 29)) (show xm_Imp g Γ 121 (xi_get 4 29 124) from xs_get hG hΓ (ci := 4) (kf := 29) rfl (Nat.le_of_ble_eq_true rfl) q2879 dX5_readsString_121) (fun _ => rfl) rfl ?_
    refine xw_ic (show xm_Imp g Γ 124 (xi_ic (fun x y => x = y) 127 137) from xs_icmp_ne hΓ dX5_readsString_124 (by decide)) (fun c => ?_) (fun c => ?_)
    · rw [if_pos c] at e
      refine xw_ild (show xm_Imp g Γ 127 (xi_ild 1 128) from xs_iload_n hΓ dX5_readsString_127) rfl ?_
      refine xw_ild (show xm_Imp g Γ 128 (xi_ild 2 129) from xs_iload_n hΓ dX5_readsString_128) rfl ?_
      refine xw_ii (show xm_Imp g Γ 129 (xi_ii (fun x y => x ||| y) 130) from xs_ior hΓ dX5_readsString_129) ?_
      refine xw_if (show xm_Imp g Γ 130 (xi_if (fun x => x = 0) 137 133) from xs_if_eq hΓ dX5_readsString_130 (by decide)) (fun c => ?_) (fun c => ?_)
      · rw [if_pos c] at e
        refine xw_psh (v := (.int (0))) (show xm_Imp g Γ 137 (xi_psh (.int (0)) 138) from xs_iconst hΓ dX5_readsString_137 (by decide)) ?_
        exact hB_138 _ _ _ _ _ e hp
      · rw [if_neg c] at e
        refine xw_psh (v := (.int (1))) (show xm_Imp g Γ 133 (xi_psh (.int (1)) 134) from xs_iconst hΓ dX5_readsString_133 (by decide)) ?_
        refine xw_goto (show xm_Imp g Γ 134 (xi_goto 138) from xs_goto hΓ dX5_readsString_134 (by decide)) ?_
        exact hB_138 _ _ _ _ _ e hp
    · rw [if_neg c] at e
      refine xw_psh (v := (.int (0))) (show xm_Imp g Γ 137 (xi_psh (.int (0)) 138) from xs_iconst hΓ dX5_readsString_137 (by decide)) ?_
      exact hB_138 _ _ _ _ _ e hp
  have hL_32 : ∀ (σ : xM_S) (s : Int32 × Int32 × Int32) (o : xM_S), L_X5_readsString_32 σ s = some o → P0 o → xm_W g Γ 32 [some (.ref m), some (.int s.1), some (.int s.2.1), some (.int s.2.2), none] [] (xMp h0 m ad σ) 0 0 := by
    intro σ
    refine xl_rule (WS := fun s : Int32 × Int32 × Int32 => xm_W g Γ 32 [some (.ref m), some (.int s.1), some (.int s.2.1), some (.int s.2.2), none] [] (xMp h0 m ad σ) 0 0) ?_
    intro s o e hp
    obtain ⟨P1, hP1, hp⟩ : ∃ P : (Int32 × Int32 × Int32) ⊕ (xM_S) → Prop, (∀ o, P o → xl_P (fun s : Int32 × Int32 × Int32 => xm_W g Γ 32 [some (.ref m), some (.int s.1), some (.int s.2.1), some (.int s.2.2), none] [] (xMp h0 m ad σ) 0 0) P0 o) ∧ P o := ⟨_, fun _ h => h, hp⟩
    have hB_104 : ∀ (l1 : Int32) (l2 : Int32) (l3 : Int32) (o : (Int32 × Int32 × Int32) ⊕ (xM_S)), B_X5_readsString_104 l1 l2 l3 σ = some o → P1 o → xm_W g Γ 104 [some (.ref m), some (.int l1), some (.int l2), some (.int l3), none] [] (xMp h0 m ad σ) 0 0 := by
      intro l1 l2 l3 o e hp
      unfold B_X5_readsString_104 at e
      refine xw_inc (v := (1)) (ls' := [some (.ref m), some (.int l1), some (.int l2), some (.int (l3 + 1)), none]) (show xm_Imp g Γ 104 (xi_inc 3 (1) 107) from xs_iinc hΓ dX5_readsString_104 (by decide) (Nat.le_of_ble_eq_true rfl)) rfl rfl ?_
      refine xw_goto (show xm_Imp g Γ 107 (xi_goto 32) from xs_goto hΓ dX5_readsString_107 (by decide)) ?_
      have hq := xl_P_inl (hP1 _ (xl_fin e hp)); exact hq
    have hB_84 : ∀ (l1 : Int32) (l2 : Int32) (l3 : Int32) (l4 : Int32) (o : (Int32 × Int32 × Int32) ⊕ (xM_S)), B_X5_readsString_84 l1 l2 l3 l4 σ = some o → P1 o → xm_W g Γ 84 [some (.ref m), some (.int l1), some (.int l2), some (.int l3), some (.int l4)] [] (xMp h0 m ad σ) 0 0 := by
      intro l1 l2 l3 l4 o e hp
      unfold B_X5_readsString_84 at e
      refine xw_ild (show xm_Imp g Γ 84 (xi_ild 4 86) from xs_iload hΓ dX5_readsString_84) rfl ?_
      refine xw_psh (v := (.int (89))) (show xm_Imp g Γ 86 (xi_psh (.int (89)) 88) from xs_bipush hΓ dX5_readsString_86 (by decide)) ?_
      refine xw_ic (show xm_Imp g Γ 88 (xi_ic (fun x y => x = y) 98 91) from xs_icmp_eq hΓ dX5_readsString_88 (by decide)) (fun c => ?_) (fun c => ?_)
      · rw [if_pos c] at e
        refine xw_ild (show xm_Imp g Γ 98 (xi_ild 2 99) from xs_iload_n hΓ dX5_readsString_98) rfl ?_
        refine xw_psh (v := (.int (1))) (show xm_Imp g Γ 99 (xi_psh (.int (1)) 100) from xs_iconst hΓ dX5_readsString_99 (by decide)) ?_
        refine xw_ild (show xm_Imp g Γ 100 (xi_ild 3 101) from xs_iload_n hΓ dX5_readsString_100) rfl ?_
        refine xw_ii (show xm_Imp g Γ 101 (xi_ii (fun x y => x <<< (y &&& 31)) 102) from xs_ishl hΓ dX5_readsString_101) ?_
        refine xw_ii (show xm_Imp g Γ 102 (xi_ii (fun x y => x ||| y) 103) from xs_ior hΓ dX5_readsString_102) ?_
        refine xw_ist (ls' := [some (.ref m), some (.int l1), some (.int (l2 ||| (1 <<< (l3 &&& 31)))), some (.int l3), some (.int l4)]) (show xm_Imp g Γ 103 (xi_ist 2 104) from xs_istore_n hΓ dX5_readsString_103 (Nat.le_of_ble_eq_true rfl)) rfl ?_
        exact xm_lx (hB_104 _ _ _ _ e hp) (And.intro rfl (And.intro rfl (And.intro rfl (And.intro rfl (trivial)))))
      · rw [if_neg c] at e
        refine xw_ild (show xm_Imp g Γ 91 (xi_ild 4 93) from xs_iload hΓ dX5_readsString_91) rfl ?_
        refine xw_psh (v := (.int (90))) (show xm_Imp g Γ 93 (xi_psh (.int (90)) 95) from xs_bipush hΓ dX5_readsString_93 (by decide)) ?_
        refine xw_ic (show xm_Imp g Γ 95 (xi_ic (fun x y => x = y) 98 104) from xs_icmp_ne hΓ dX5_readsString_95 (by decide)) (fun c => ?_) (fun c => ?_)
        · rw [if_pos c] at e
          refine xw_ild (show xm_Imp g Γ 98 (xi_ild 2 99) from xs_iload_n hΓ dX5_readsString_98) rfl ?_
          refine xw_psh (v := (.int (1))) (show xm_Imp g Γ 99 (xi_psh (.int (1)) 100) from xs_iconst hΓ dX5_readsString_99 (by decide)) ?_
          refine xw_ild (show xm_Imp g Γ 100 (xi_ild 3 101) from xs_iload_n hΓ dX5_readsString_100) rfl ?_
          refine xw_ii (show xm_Imp g Γ 101 (xi_ii (fun x y => x <<< (y &&& 31)) 102) from xs_ishl hΓ dX5_readsString_101) ?_
          refine xw_ii (show xm_Imp g Γ 102 (xi_ii (fun x y => x ||| y) 103) from xs_ior hΓ dX5_readsString_102) ?_
          refine xw_ist (ls' := [some (.ref m), some (.int l1), some (.int (l2 ||| (1 <<< (l3 &&& 31)))), some (.int l3), some (.int l4)]) (show xm_Imp g Γ 103 (xi_ist 2 104) from xs_istore_n hΓ dX5_readsString_103 (Nat.le_of_ble_eq_true rfl)) rfl ?_
          exact xm_lx (hB_104 _ _ _ _ e hp) (And.intro rfl (And.intro rfl (And.intro rfl (And.intro rfl (trivial)))))
        · rw [if_neg c] at e
          exact xm_lx (hB_104 _ _ _ _ e hp) (And.intro rfl (And.intro rfl (And.intro rfl (And.intro rfl (trivial)))))
    unfold D_X5_readsString_32 at e
    refine xw_ild (show xm_Imp g Γ 32 (xi_ild 3 33) from xs_iload_n hΓ dX5_readsString_32) rfl ?_
    refine xw_ald (show xm_Imp g Γ 33 (xi_ald 0 34) from xs_aload_n hΓ dX5_readsString_33) rfl ?_
    refine xw_mgi (v := (σ.1 22)) (show xm_Imp g Γ 34 (xi_get 4 22 37) from xs_get hG hΓ (ci := 4) (kf := 22) rfl (Nat.le_of_ble_eq_true rfl) q2872 dX5_readsString_34) (fun _ => rfl) rfl ?_
    refine xw_ald (show xm_Imp g Γ 37 (xi_ald 0 38) from xs_aload_n hΓ dX5_readsString_37) rfl ?_
    refine xw_mgi (v := (σ.1 23)) (show xm_Imp g Γ 38 (xi_get 4 23 41) from xs_get hG hΓ (ci := 4) (kf := 23) rfl (Nat.le_of_ble_eq_true rfl) q2873 dX5_readsString_38) (fun _ => rfl) rfl ?_
    refine xw_ii (show xm_Imp g Γ 41 (xi_ii (fun x y => x - y) 42) from xs_isub hΓ dX5_readsString_41) ?_
    refine xw_ic (show xm_Imp g Γ 42 (xi_ic (fun x y => y ≤ x) 110 45) from xs_icmp_ge hΓ dX5_readsString_42 (by decide)) (fun c => ?_) (fun c => ?_)
    · rw [if_pos c] at e
      obtain ⟨_, e, hp⟩ := xl_o_s e (hP1 _ hp)
      exact xm_lx (hB_110 _ _ _ _ e hp) (And.intro rfl (And.intro rfl (And.intro rfl (trivial))))
    · rw [if_neg c] at e
      refine xw_ild (show xm_Imp g Γ 45 (xi_ild 3 46) from xs_iload_n hΓ dX5_readsString_45) rfl ?_
      refine xw_psh (v := (.int (8))) (show xm_Imp g Γ 46 (xi_psh (.int (8)) 48) from xs_bipush hΓ dX5_readsString_46 (by decide)) ?_
      refine xw_ic (show xm_Imp g Γ 48 (xi_ic (fun x y => y ≤ x) 110 51) from xs_icmp_ge hΓ dX5_readsString_48 (by decide)) (fun c => ?_) (fun c => ?_)
      · rw [if_pos c] at e
        obtain ⟨_, e, hp⟩ := xl_o_s e (hP1 _ hp)
        exact xm_lx (hB_110 _ _ _ _ e hp) (And.intro rfl (And.intro rfl (And.intro rfl (trivial))))
      · rw [if_neg c] at e
        refine xw_ald (show xm_Imp g Γ 51 (xi_ald 0 52) from xs_aload_n hΓ dX5_readsString_51) rfl ?_
        refine xw_mga (k := 19) (show xm_Imp g Γ 52 (xi_get 4 19 55) from xs_get hG hΓ (ci := 4) (kf := 19) rfl (Nat.le_of_ble_eq_true rfl) q2869 dX5_readsString_52) (fun _ => rfl) ?_
        refine xw_ald (show xm_Imp g Γ 55 (xi_ald 0 56) from xs_aload_n hΓ dX5_readsString_55) rfl ?_
        refine xw_mgi (v := (σ.1 23)) (show xm_Imp g Γ 56 (xi_get 4 23 59) from xs_get hG hΓ (ci := 4) (kf := 23) rfl (Nat.le_of_ble_eq_true rfl) q2873 dX5_readsString_56) (fun _ => rfl) rfl ?_
        refine xw_ild (show xm_Imp g Γ 59 (xi_ild 3 60) from xs_iload_n hΓ dX5_readsString_59) rfl ?_
        refine xw_ii (show xm_Imp g Γ 60 (xi_ii (fun x y => x + y) 61) from xs_iadd hΓ dX5_readsString_60) ?_
        obtain ⟨j4, e1, e⟩ := xo_b_s e
        refine xw_mbal (k := 19) (v := (σ.2 19 j4)) (show xm_Imp g Γ 61 (xi_bal 62) from xs_bal hG hΓ dX5_readsString_61) hM (by decide) rfl e1 rfl ?_
        refine xw_ist (ls' := [some (.ref m), some (.int s.1), some (.int s.2.1), some (.int s.2.2), some (.int (σ.2 19 j4))]) (show xm_Imp g Γ 62 (xi_ist 4 64) from xs_istore hΓ dX5_readsString_62 (Nat.le_of_ble_eq_true rfl)) rfl ?_
        refine xw_ild (show xm_Imp g Γ 64 (xi_ild 4 66) from xs_iload hΓ dX5_readsString_64) rfl ?_
        refine xw_psh (v := (.int (88))) (show xm_Imp g Γ 66 (xi_psh (.int (88)) 68) from xs_bipush hΓ dX5_readsString_66 (by decide)) ?_
        refine xw_ic (show xm_Imp g Γ 68 (xi_ic (fun x y => x = y) 78 71) from xs_icmp_eq hΓ dX5_readsString_68 (by decide)) (fun c => ?_) (fun c => ?_)
        · rw [if_pos c] at e
          refine xw_ild (show xm_Imp g Γ 78 (xi_ild 1 79) from xs_iload_n hΓ dX5_readsString_78) rfl ?_
          refine xw_psh (v := (.int (1))) (show xm_Imp g Γ 79 (xi_psh (.int (1)) 80) from xs_iconst hΓ dX5_readsString_79 (by decide)) ?_
          refine xw_ild (show xm_Imp g Γ 80 (xi_ild 3 81) from xs_iload_n hΓ dX5_readsString_80) rfl ?_
          refine xw_ii (show xm_Imp g Γ 81 (xi_ii (fun x y => x <<< (y &&& 31)) 82) from xs_ishl hΓ dX5_readsString_81) ?_
          refine xw_ii (show xm_Imp g Γ 82 (xi_ii (fun x y => x ||| y) 83) from xs_ior hΓ dX5_readsString_82) ?_
          refine xw_ist (ls' := [some (.ref m), some (.int (s.1 ||| (1 <<< (s.2.2 &&& 31)))), some (.int s.2.1), some (.int s.2.2), some (.int (σ.2 19 j4))]) (show xm_Imp g Γ 83 (xi_ist 1 84) from xs_istore_n hΓ dX5_readsString_83 (Nat.le_of_ble_eq_true rfl)) rfl ?_
          exact hB_84 _ _ _ _ _ e hp
        · rw [if_neg c] at e
          refine xw_ild (show xm_Imp g Γ 71 (xi_ild 4 73) from xs_iload hΓ dX5_readsString_71) rfl ?_
          refine xw_psh (v := (.int (89))) (show xm_Imp g Γ 73 (xi_psh (.int (89)) 75) from xs_bipush hΓ dX5_readsString_73 (by decide)) ?_
          refine xw_ic (show xm_Imp g Γ 75 (xi_ic (fun x y => x = y) 78 84) from xs_icmp_ne hΓ dX5_readsString_75 (by decide)) (fun c => ?_) (fun c => ?_)
          · rw [if_pos c] at e
            refine xw_ild (show xm_Imp g Γ 78 (xi_ild 1 79) from xs_iload_n hΓ dX5_readsString_78) rfl ?_
            refine xw_psh (v := (.int (1))) (show xm_Imp g Γ 79 (xi_psh (.int (1)) 80) from xs_iconst hΓ dX5_readsString_79 (by decide)) ?_
            refine xw_ild (show xm_Imp g Γ 80 (xi_ild 3 81) from xs_iload_n hΓ dX5_readsString_80) rfl ?_
            refine xw_ii (show xm_Imp g Γ 81 (xi_ii (fun x y => x <<< (y &&& 31)) 82) from xs_ishl hΓ dX5_readsString_81) ?_
            refine xw_ii (show xm_Imp g Γ 82 (xi_ii (fun x y => x ||| y) 83) from xs_ior hΓ dX5_readsString_82) ?_
            refine xw_ist (ls' := [some (.ref m), some (.int (s.1 ||| (1 <<< (s.2.2 &&& 31)))), some (.int s.2.1), some (.int s.2.2), some (.int (σ.2 19 j4))]) (show xm_Imp g Γ 83 (xi_ist 1 84) from xs_istore_n hΓ dX5_readsString_83 (Nat.le_of_ble_eq_true rfl)) rfl ?_
            exact hB_84 _ _ _ _ _ e hp
          · rw [if_neg c] at e
            exact hB_84 _ _ _ _ _ e hp
  have hB_14 : ∀ (s1 : Int32) (σ : xM_S) (o : xM_S), B_X5_readsString_14 s1 σ = some o → P0 o → xm_W g Γ 14 [some (.ref m), none, none, none, none] [.int s1, .ref m] (xMp h0 m ad σ) 0 0 := by
    intro s1 σ o e hp
    unfold B_X5_readsString_14 at e
    refine xw_psh (v := (.int (1))) (show xm_Imp g Γ 14 (xi_psh (.int (1)) 15) from xs_iconst hΓ dX5_readsString_14 (by decide)) ?_
    refine xw_mu2 (show xm_Imp g Γ 15 (xi_vir g 4 M_X5_needs 1 2 18) from xs_invV hG hΓ k_X5_needs rfl (ci := 4) rfl q3207 q3209 qs80 dX5_readsString_15) rfl (fun Q X hQ => K_X5_needs hG hM hB s1 1 σ rfl hQ) ?_
    refine xw_ald (show xm_Imp g Γ 18 (xi_ald 0 19) from xs_aload_n hΓ dX5_readsString_18) rfl ?_
    refine xw_mv0 (show xm_Imp g Γ 19 (xi_vir g 4 M_X5_fine 1 0 22) from xs_invV hG hΓ k_X5_fine rfl (ci := 4) rfl q3203 q3205 qs79 dX5_readsString_19) rfl (fun Q X hQ => K_X5_fine hG hM hB (F_X5_needs s1 1 σ) rfl hQ) ?_
    refine xw_if (show xm_Imp g Γ 22 (xi_if (fun x => x = 0) 25 26) from xs_if_ne hΓ dX5_readsString_22 (by decide)) (fun c => ?_) (fun c => ?_)
    · rw [if_pos c] at e
      exact xw_vret (show xm_Imp g Γ 25 (xi_vret _) from xs_return hΓ rfl dX5_readsString_25) (hP0 _ (xl_fin e hp))
    · rw [if_neg c] at e
      refine xw_psh (v := (.int (0))) (show xm_Imp g Γ 26 (xi_psh (.int (0)) 27) from xs_iconst hΓ dX5_readsString_26 (by decide)) ?_
      refine xw_ist (ls' := [some (.ref m), some (.int 0), none, none, none]) (show xm_Imp g Γ 27 (xi_ist 1 28) from xs_istore_n hΓ dX5_readsString_27 (Nat.le_of_ble_eq_true rfl)) rfl ?_
      refine xw_psh (v := (.int (0))) (show xm_Imp g Γ 28 (xi_psh (.int (0)) 29) from xs_iconst hΓ dX5_readsString_28 (by decide)) ?_
      refine xw_ist (ls' := [some (.ref m), some (.int 0), some (.int 0), none, none]) (show xm_Imp g Γ 29 (xi_ist 2 30) from xs_istore_n hΓ dX5_readsString_29 (Nat.le_of_ble_eq_true rfl)) rfl ?_
      refine xw_psh (v := (.int (0))) (show xm_Imp g Γ 30 (xi_psh (.int (0)) 31) from xs_iconst hΓ dX5_readsString_30 (by decide)) ?_
      refine xw_ist (ls' := [some (.ref m), some (.int 0), some (.int 0), some (.int 0), none]) (show xm_Imp g Γ 31 (xi_ist 3 32) from xs_istore_n hΓ dX5_readsString_31 (Nat.le_of_ble_eq_true rfl)) rfl ?_
      exact hL_32 _ _ _ e hp
  unfold F_X5_readsString at e
  refine xw_ald (show xm_Imp g Γ 0 (xi_ald 0 1) from xs_aload_n hΓ dX5_readsString_0) rfl ?_
  refine xw_ald (show xm_Imp g Γ 1 (xi_ald 0 2) from xs_aload_n hΓ dX5_readsString_1) rfl ?_
  refine xw_mgi (v := (σ.1 24)) (show xm_Imp g Γ 2 (xi_get 4 24 5) from xs_get hG hΓ (ci := 4) (kf := 24) rfl (Nat.le_of_ble_eq_true rfl) q2874 dX5_readsString_2) (fun _ => rfl) rfl ?_
  refine xw_psh (v := (.int (2))) (show xm_Imp g Γ 5 (xi_psh (.int (2)) 6) from xs_iconst hΓ dX5_readsString_5 (by decide)) ?_
  refine xw_ic (show xm_Imp g Γ 6 (xi_ic (fun x y => x = y) 9 13) from xs_icmp_ne hΓ dX5_readsString_6 (by decide)) (fun c => ?_) (fun c => ?_)
  · rw [if_pos c] at e
    refine xw_psh (v := (.int (1))) (show xm_Imp g Γ 9 (xi_psh (.int (1)) 10) from xs_iconst hΓ dX5_readsString_9 (by decide)) ?_
    refine xw_goto (show xm_Imp g Γ 10 (xi_goto 14) from xs_goto hΓ dX5_readsString_10 (by decide)) ?_
    exact hB_14 _ _ _ e hp
  · rw [if_neg c] at e
    refine xw_psh (v := (.int (0))) (show xm_Imp g Γ 13 (xi_psh (.int (0)) 14) from xs_iconst hΓ dX5_readsString_13 (by decide)) ?_
    exact hB_14 _ _ _ e hp
noncomputable def B_X5_readsMeasure_88 (l2 : Int32) (σ : xM_S) : Option (xM_S) :=
 xo_b (F_X5_lays 7 l2 σ) (fun v9 =>
 some (xM_f v9 32 ((v9.1 32) + 1)))
noncomputable def B_X5_readsMeasure_84 (l2 : Int32) (s1 : Int32) (σ : xM_S) : Option (xM_S) :=
 B_X5_readsMeasure_88 l2 (F_X5_needs s1 1 σ)
noncomputable def B_X5_readsMeasure_47 (s1 : Int32) (s2 : Int32) (σ : xM_S) : Option (xM_S) :=
 xo_b (F_X5_lays s1 s2 σ) (fun v7 =>
 xo_b (F_X5_readsString v7) (fun v8 =>
 (if (F_X5_isWord 12 v8) = 0 then
 B_X5_readsMeasure_88 0 v8 else
 xo_b (F_X5_goOn v8) (fun v10 =>
 xo_b (F_X5_readsSign v10) (fun v11 =>
 B_X5_readsMeasure_84 v11.1 (if v11.1 = 0 then 0 else 1) v11.2)))))
noncomputable def F_X5_readsMeasure (σ : xM_S) : Option (xM_S) :=
 xo_b (F_X5_goOn σ) (fun v1 =>
 xo_b (F_X5_lays 0 9 v1) (fun v2 =>
 xo_b (F_X5_lays 1 (-1) v2) (fun v3 =>
 xo_b (F_X5_lays 2 (-1) v3) (fun v4 =>
 xo_b (F_X5_lays 3 (-1) v4) (fun v5 =>
 xo_b (F_X5_readsSign v5) (fun v6 =>
 B_X5_readsMeasure_47 6 (if v6.1 = (-1) then (-1) else 1) v6.2))))))
set_option maxHeartbeats 4000000 in
theorem K_X5_readsMeasure {g : xm_G} (hG : xm_Gw g) {h0 : xm_H} {m : Nat} {ad : Nat → Nat} (hM : xM_ok h0 m ad) (hB : xk_B g h0)  (σ : xM_S) {o : xM_S} (e : F_X5_readsMeasure σ = some o) {Q : xm_P} {X : xm_X} (hQ : Q none (xMp h0 m ad o)) : xm_Run g M_X5_readsMeasure 16 [.ref m] (xMp h0 m ad σ) 0 0 Q X := by
  refine xm_Run.of pn_StringTableauModel (Nat.le_of_ble_eq_true rfl) (fun Γ hΓ => ?_)
  obtain ⟨P0, hP0, hp⟩ : ∃ P : xM_S → Prop, (∀ o, P o → Q none (xMp h0 m ad o)) ∧ P o := ⟨fun o => Q none (xMp h0 m ad o), fun _ h => h, hQ⟩
  clear hQ
  show xm_W g Γ 0 [some (.ref m), none, none] [] (xMp h0 m ad σ) 0 0
  have hB_88 : ∀ (l2 : Int32) (σ : xM_S) (o : xM_S), B_X5_readsMeasure_88 l2 σ = some o → P0 o → xm_W g Γ 88 [some (.ref m), none, some (.int l2)] [] (xMp h0 m ad σ) 0 0 := by
    intro l2 σ o e hp
    unfold B_X5_readsMeasure_88 at e
    refine xw_ald (show xm_Imp g Γ 88 (xi_ald 0 89) from xs_aload_n hΓ dX5_readsMeasure_88) rfl ?_
    refine xw_psh (v := (.int (7))) (show xm_Imp g Γ 89 (xi_psh (.int (7)) 91) from xs_bipush hΓ dX5_readsMeasure_89 (by decide)) ?_
    refine xw_ild (show xm_Imp g Γ 91 (xi_ild 2 92) from xs_iload_n hΓ dX5_readsMeasure_91) rfl ?_
    obtain ⟨v9, e1, e⟩ := xo_b_s e
    refine xw_mu2 (show xm_Imp g Γ 92 (xi_vir g 4 M_X5_lays 2 2 95) from xs_invV hG hΓ k_X5_lays rfl (ci := 4) rfl q3240 q3242 qs88 dX5_readsMeasure_92) rfl (fun Q X hQ => K_X5_lays hG hM hB 7 l2 σ e1 hQ) ?_
    refine xw_ald (show xm_Imp g Γ 95 (xi_ald 0 96) from xs_aload_n hΓ dX5_readsMeasure_95) rfl ?_
    refine xw_ald (show xm_Imp g Γ 96 (xi_ald 0 97) from xs_aload_n hΓ dX5_readsMeasure_96) rfl ?_
    refine xw_mgi (v := (v9.1 32)) (show xm_Imp g Γ 97 (xi_get 4 32 100) from xs_get hG hΓ (ci := 4) (kf := 32) rfl (Nat.le_of_ble_eq_true rfl) q2882 dX5_readsMeasure_97) (fun _ => rfl) rfl ?_
    refine xw_psh (v := (.int (1))) (show xm_Imp g Γ 100 (xi_psh (.int (1)) 101) from xs_iconst hΓ dX5_readsMeasure_100 (by decide)) ?_
    refine xw_ii (show xm_Imp g Γ 101 (xi_ii (fun x y => x + y) 102) from xs_iadd hΓ dX5_readsMeasure_101) ?_
    refine xw_mpi (show xm_Imp g Γ 102 (xi_put 4 32 (.int) 105) from xs_put hG hΓ (ci := 4) (kf := 32) rfl (Nat.le_of_ble_eq_true rfl) rfl (by decide +kernel) q2882 dX5_readsMeasure_102) (fun _ _ => rfl) ⟨rfl, rfl⟩ ?_
    exact xw_vret (show xm_Imp g Γ 105 (xi_vret _) from xs_return hΓ rfl dX5_readsMeasure_105) (hP0 _ (xl_fin e hp))
  have hB_84 : ∀ (l2 : Int32) (s1 : Int32) (σ : xM_S) (o : xM_S), B_X5_readsMeasure_84 l2 s1 σ = some o → P0 o → xm_W g Γ 84 [some (.ref m), none, some (.int l2)] [.int s1, .ref m] (xMp h0 m ad σ) 0 0 := by
    intro l2 s1 σ o e hp
    unfold B_X5_readsMeasure_84 at e
    refine xw_psh (v := (.int (1))) (show xm_Imp g Γ 84 (xi_psh (.int (1)) 85) from xs_iconst hΓ dX5_readsMeasure_84 (by decide)) ?_
    refine xw_mu2 (show xm_Imp g Γ 85 (xi_vir g 4 M_X5_needs 1 2 88) from xs_invV hG hΓ k_X5_needs rfl (ci := 4) rfl q3207 q3209 qs80 dX5_readsMeasure_85) rfl (fun Q X hQ => K_X5_needs hG hM hB s1 1 σ rfl hQ) ?_
    exact hB_88 _ _ _ e hp
  have hB_47 : ∀ (s1 : Int32) (s2 : Int32) (σ : xM_S) (o : xM_S), B_X5_readsMeasure_47 s1 s2 σ = some o → P0 o → xm_W g Γ 47 [some (.ref m), none, none] [.int s2, .int s1, .ref m] (xMp h0 m ad σ) 0 0 := by
    intro s1 s2 σ o e hp
    unfold B_X5_readsMeasure_47 at e
    obtain ⟨v7, e1, e⟩ := xo_b_s e
    refine xw_mu2 (show xm_Imp g Γ 47 (xi_vir g 4 M_X5_lays 2 2 50) from xs_invV hG hΓ k_X5_lays rfl (ci := 4) rfl q3240 q3242 qs88 dX5_readsMeasure_47) rfl (fun Q X hQ => K_X5_lays hG hM hB s1 s2 σ e1 hQ) ?_
    refine xw_ald (show xm_Imp g Γ 50 (xi_ald 0 51) from xs_aload_n hΓ dX5_readsMeasure_50) rfl ?_
    obtain ⟨v8, e1, e⟩ := xo_b_s e
    refine xw_mu0 (show xm_Imp g Γ 51 (xi_vir g 4 M_X5_readsString 15 0 54) from xs_invV hG hΓ k_X5_readsString rfl (ci := 4) rfl q3248 q3250 qs90 dX5_readsMeasure_51) rfl (fun Q X hQ => K_X5_readsString hG hM hB v7 e1 hQ) ?_
    refine xw_psh (v := (.int (0))) (show xm_Imp g Γ 54 (xi_psh (.int (0)) 55) from xs_iconst hΓ dX5_readsMeasure_54 (by decide)) ?_
    refine xw_ist (ls' := [some (.ref m), none, some (.int 0)]) (show xm_Imp g Γ 55 (xi_ist 2 56) from xs_istore_n hΓ dX5_readsMeasure_55 (Nat.le_of_ble_eq_true rfl)) rfl ?_
    refine xw_ald (show xm_Imp g Γ 56 (xi_ald 0 57) from xs_aload_n hΓ dX5_readsMeasure_56) rfl ?_
    refine xw_psh (v := (.int (12))) (show xm_Imp g Γ 57 (xi_psh (.int (12)) 59) from xs_bipush hΓ dX5_readsMeasure_57 (by decide)) ?_
    refine xw_mv1 (show xm_Imp g Γ 59 (xi_vir g 4 M_X5_isWord 2 1 62) from xs_invV hG hΓ k_X5_isWord rfl (ci := 4) rfl q3199 q3201 qs78 dX5_readsMeasure_59) rfl (fun Q X hQ => K_X5_isWord hG hM hB 12 v8 rfl hQ) ?_
    refine xw_if (show xm_Imp g Γ 62 (xi_if (fun x => x = 0) 88 65) from xs_if_eq hΓ dX5_readsMeasure_62 (by decide)) (fun c => ?_) (fun c => ?_)
    · rw [if_pos c] at e
      exact hB_88 _ _ _ e hp
    · rw [if_neg c] at e
      refine xw_ald (show xm_Imp g Γ 65 (xi_ald 0 66) from xs_aload_n hΓ dX5_readsMeasure_65) rfl ?_
      obtain ⟨v10, e1, e⟩ := xo_b_s e
      refine xw_mu0 (show xm_Imp g Γ 66 (xi_vir g 4 M_X5_goOn 14 0 69) from xs_invV hG hΓ k_X5_goOn rfl (ci := 4) rfl q3211 q3213 qs81 dX5_readsMeasure_66) rfl (fun Q X hQ => K_X5_goOn hG hM hB v8 e1 hQ) ?_
      refine xw_ald (show xm_Imp g Γ 69 (xi_ald 0 70) from xs_aload_n hΓ dX5_readsMeasure_69) rfl ?_
      obtain ⟨v11, e1, e⟩ := xo_b_s e
      refine xw_mv0 (show xm_Imp g Γ 70 (xi_vir g 4 M_X5_readsSign 15 0 73) from xs_invV hG hΓ k_X5_readsSign rfl (ci := 4) rfl q3244 q3246 qs89 dX5_readsMeasure_70) rfl (fun Q X hQ => K_X5_readsSign hG hM hB v10 e1 hQ) ?_
      refine xw_ist (ls' := [some (.ref m), none, some (.int v11.1)]) (show xm_Imp g Γ 73 (xi_ist 2 74) from xs_istore_n hΓ dX5_readsMeasure_73 (Nat.le_of_ble_eq_true rfl)) rfl ?_
      refine xw_ald (show xm_Imp g Γ 74 (xi_ald 0 75) from xs_aload_n hΓ dX5_readsMeasure_74) rfl ?_
      refine xw_ild (show xm_Imp g Γ 75 (xi_ild 2 76) from xs_iload_n hΓ dX5_readsMeasure_75) rfl ?_
      refine xw_if (show xm_Imp g Γ 76 (xi_if (fun x => x = 0) 83 79) from xs_if_eq hΓ dX5_readsMeasure_76 (by decide)) (fun c => ?_) (fun c => ?_)
      · rw [if_pos c] at e
        refine xw_psh (v := (.int (0))) (show xm_Imp g Γ 83 (xi_psh (.int (0)) 84) from xs_iconst hΓ dX5_readsMeasure_83 (by decide)) ?_
        exact hB_84 _ _ _ _ e hp
      · rw [if_neg c] at e
        refine xw_psh (v := (.int (1))) (show xm_Imp g Γ 79 (xi_psh (.int (1)) 80) from xs_iconst hΓ dX5_readsMeasure_79 (by decide)) ?_
        refine xw_goto (show xm_Imp g Γ 80 (xi_goto 84) from xs_goto hΓ dX5_readsMeasure_80 (by decide)) ?_
        exact hB_84 _ _ _ _ e hp
  unfold F_X5_readsMeasure at e
  refine xw_ald (show xm_Imp g Γ 0 (xi_ald 0 1) from xs_aload_n hΓ dX5_readsMeasure_0) rfl ?_
  obtain ⟨v1, e1, e⟩ := xo_b_s e
  refine xw_mu0 (show xm_Imp g Γ 1 (xi_vir g 4 M_X5_goOn 14 0 4) from xs_invV hG hΓ k_X5_goOn rfl (ci := 4) rfl q3211 q3213 qs81 dX5_readsMeasure_1) rfl (fun Q X hQ => K_X5_goOn hG hM hB σ e1 hQ) ?_
  refine xw_ald (show xm_Imp g Γ 4 (xi_ald 0 5) from xs_aload_n hΓ dX5_readsMeasure_4) rfl ?_
  refine xw_psh (v := (.int (0))) (show xm_Imp g Γ 5 (xi_psh (.int (0)) 6) from xs_iconst hΓ dX5_readsMeasure_5 (by decide)) ?_
  refine xw_psh (v := (.int (9))) (show xm_Imp g Γ 6 (xi_psh (.int (9)) 8) from xs_bipush hΓ dX5_readsMeasure_6 (by decide)) ?_
  obtain ⟨v2, e1, e⟩ := xo_b_s e
  refine xw_mu2 (show xm_Imp g Γ 8 (xi_vir g 4 M_X5_lays 2 2 11) from xs_invV hG hΓ k_X5_lays rfl (ci := 4) rfl q3240 q3242 qs88 dX5_readsMeasure_8) rfl (fun Q X hQ => K_X5_lays hG hM hB 0 9 v1 e1 hQ) ?_
  refine xw_ald (show xm_Imp g Γ 11 (xi_ald 0 12) from xs_aload_n hΓ dX5_readsMeasure_11) rfl ?_
  refine xw_psh (v := (.int (1))) (show xm_Imp g Γ 12 (xi_psh (.int (1)) 13) from xs_iconst hΓ dX5_readsMeasure_12 (by decide)) ?_
  refine xw_psh (v := (.int (-1))) (show xm_Imp g Γ 13 (xi_psh (.int (-1)) 14) from xs_iconst hΓ dX5_readsMeasure_13 (by decide)) ?_
  obtain ⟨v3, e1, e⟩ := xo_b_s e
  refine xw_mu2 (show xm_Imp g Γ 14 (xi_vir g 4 M_X5_lays 2 2 17) from xs_invV hG hΓ k_X5_lays rfl (ci := 4) rfl q3240 q3242 qs88 dX5_readsMeasure_14) rfl (fun Q X hQ => K_X5_lays hG hM hB 1 (-1) v2 e1 hQ) ?_
  refine xw_ald (show xm_Imp g Γ 17 (xi_ald 0 18) from xs_aload_n hΓ dX5_readsMeasure_17) rfl ?_
  refine xw_psh (v := (.int (2))) (show xm_Imp g Γ 18 (xi_psh (.int (2)) 19) from xs_iconst hΓ dX5_readsMeasure_18 (by decide)) ?_
  refine xw_psh (v := (.int (-1))) (show xm_Imp g Γ 19 (xi_psh (.int (-1)) 20) from xs_iconst hΓ dX5_readsMeasure_19 (by decide)) ?_
  obtain ⟨v4, e1, e⟩ := xo_b_s e
  refine xw_mu2 (show xm_Imp g Γ 20 (xi_vir g 4 M_X5_lays 2 2 23) from xs_invV hG hΓ k_X5_lays rfl (ci := 4) rfl q3240 q3242 qs88 dX5_readsMeasure_20) rfl (fun Q X hQ => K_X5_lays hG hM hB 2 (-1) v3 e1 hQ) ?_
  refine xw_ald (show xm_Imp g Γ 23 (xi_ald 0 24) from xs_aload_n hΓ dX5_readsMeasure_23) rfl ?_
  refine xw_psh (v := (.int (3))) (show xm_Imp g Γ 24 (xi_psh (.int (3)) 25) from xs_iconst hΓ dX5_readsMeasure_24 (by decide)) ?_
  refine xw_psh (v := (.int (-1))) (show xm_Imp g Γ 25 (xi_psh (.int (-1)) 26) from xs_iconst hΓ dX5_readsMeasure_25 (by decide)) ?_
  obtain ⟨v5, e1, e⟩ := xo_b_s e
  refine xw_mu2 (show xm_Imp g Γ 26 (xi_vir g 4 M_X5_lays 2 2 29) from xs_invV hG hΓ k_X5_lays rfl (ci := 4) rfl q3240 q3242 qs88 dX5_readsMeasure_26) rfl (fun Q X hQ => K_X5_lays hG hM hB 3 (-1) v4 e1 hQ) ?_
  refine xw_ald (show xm_Imp g Γ 29 (xi_ald 0 30) from xs_aload_n hΓ dX5_readsMeasure_29) rfl ?_
  obtain ⟨v6, e1, e⟩ := xo_b_s e
  refine xw_mv0 (show xm_Imp g Γ 30 (xi_vir g 4 M_X5_readsSign 15 0 33) from xs_invV hG hΓ k_X5_readsSign rfl (ci := 4) rfl q3244 q3246 qs89 dX5_readsMeasure_30) rfl (fun Q X hQ => K_X5_readsSign hG hM hB v5 e1 hQ) ?_
  refine xw_ist (ls' := [some (.ref m), some (.int v6.1), none]) (show xm_Imp g Γ 33 (xi_ist 1 34) from xs_istore_n hΓ dX5_readsMeasure_33 (Nat.le_of_ble_eq_true rfl)) rfl ?_
  refine xw_ald (show xm_Imp g Γ 34 (xi_ald 0 35) from xs_aload_n hΓ dX5_readsMeasure_34) rfl ?_
  refine xw_psh (v := (.int (6))) (show xm_Imp g Γ 35 (xi_psh (.int (6)) 37) from xs_bipush hΓ dX5_readsMeasure_35 (by decide)) ?_
  refine xw_ild (show xm_Imp g Γ 37 (xi_ild 1 38) from xs_iload_n hΓ dX5_readsMeasure_37) rfl ?_
  refine xw_psh (v := (.int (-1))) (show xm_Imp g Γ 38 (xi_psh (.int (-1)) 39) from xs_iconst hΓ dX5_readsMeasure_38 (by decide)) ?_
  refine xw_ic (show xm_Imp g Γ 39 (xi_ic (fun x y => x = y) 42 46) from xs_icmp_ne hΓ dX5_readsMeasure_39 (by decide)) (fun c => ?_) (fun c => ?_)
  · rw [if_pos c] at e
    refine xw_psh (v := (.int (-1))) (show xm_Imp g Γ 42 (xi_psh (.int (-1)) 43) from xs_iconst hΓ dX5_readsMeasure_42 (by decide)) ?_
    refine xw_goto (show xm_Imp g Γ 43 (xi_goto 47) from xs_goto hΓ dX5_readsMeasure_43 (by decide)) ?_
    exact xm_lx (hB_47 _ _ _ _ e hp) (And.intro rfl (trivial))
  · rw [if_neg c] at e
    refine xw_psh (v := (.int (1))) (show xm_Imp g Γ 46 (xi_psh (.int (1)) 47) from xs_iconst hΓ dX5_readsMeasure_46 (by decide)) ?_
    exact xm_lx (hB_47 _ _ _ _ e hp) (And.intro rfl (trivial))
noncomputable def D_X5_readsGate_179  (s : Int32 × xM_S) : Option ((Int32 × xM_S) ⊕ (xM_S)) :=
 (if 8 ≤ s.1 then
 xl_o (some s.2) else
 xo_b (F_X5_lays s.1 0 s.2) (fun v7 =>
 some (Sum.inl (s.1 + 1, v7))))
noncomputable def L_X5_readsGate_179  (s : Int32 × xM_S) : Option (xM_S) := xl_loop (D_X5_readsGate_179 ) s
noncomputable def B_X5_readsGate_170 (l1 : Int32) (σ : xM_S) : Option (xM_S) :=
 xo_b (F_X5_lays 3 l1 σ) (fun v6 =>
 L_X5_readsGate_179 (4, v6))
noncomputable def B_X5_readsGate_157 (l1 : Int32) (σ : xM_S) : Option (xM_S) :=
 xo_b (F_X5_lays 2 (σ.1 26) σ) (fun v8 =>
 xo_b (F_X5_goOn v8) (fun v9 =>
 B_X5_readsGate_170 l1 v9))
noncomputable def B_X5_readsGate_153 (l1 : Int32) (s1 : Int32) (σ : xM_S) : Option (xM_S) :=
 B_X5_readsGate_157 l1 (F_X5_needs s1 2 σ)
noncomputable def B_X5_readsGate_109 (l1 : Int32) (l3 : Int32) (s1 : Int32) (σ : xM_S) : Option (xM_S) :=
 (if (F_X5_fine (F_X5_needs s1 1 σ)) = 0 then
 B_X5_readsGate_157 l1 (F_X5_needs s1 1 σ) else
 B_X5_readsGate_153 l1 (if (F_X5_isIn (((F_X5_needs s1 1 σ).1 26).toInt64) 0 ((((F_X5_needs s1 1 σ).1 29) - 1).toInt64)) = 0 then 0 else (if ((F_X5_needs s1 1 σ).1 26) = l3 then 0 else 1)) (F_X5_needs s1 1 σ))
noncomputable def B_X5_readsGate_43 (l1 : Int32) (l2 : Int32) (s1 : Int32) (σ : xM_S) : Option (xM_S) :=
 xo_b (F_X5_goOn (F_X5_needs s1 1 σ)) (fun v1 =>
 xo_b (F_X5_lays 0 l2 v1) (fun v2 =>
 xo_b (F_X5_reads 0 ((v2.1 29) - 1) 2 v2) (fun v3 =>
 xo_b (F_X5_lays 1 v3.1 v3.2) (fun v4 =>
 xo_b (F_X5_lays 2 (-1) v4) (fun v5 =>
 (if (F_X5_fine v5) = 0 then
 B_X5_readsGate_170 l1 v5 else
 (if l2 < 6 then
 B_X5_readsGate_170 l1 v5 else
 B_X5_readsGate_109 l1 v3.1 (if (v5.1 24) = 3 then 1 else 0) v5)))))))
noncomputable def B_X5_readsGate_31 (l1 : Int32) (s0 : Int32) (σ : xM_S) : Option (xM_S) :=
 B_X5_readsGate_43 l1 s0 (if s0 = (-1) then 0 else 1) σ
noncomputable def F_X5_readsGate (p1 : Int32) (σ : xM_S) : Option (xM_S) :=
 B_X5_readsGate_31 p1 (if (σ.1 24) = 1 then (if (F_X5_isIn ((σ.1 25).toInt64) 0 8) = 0 then (-1) else (σ.1 25)) else (-1)) σ
set_option maxHeartbeats 4000000 in
theorem K_X5_readsGate {g : xm_G} (hG : xm_Gw g) {h0 : xm_H} {m : Nat} {ad : Nat → Nat} (hM : xM_ok h0 m ad) (hB : xk_B g h0) (p1 : Int32) (σ : xM_S) {o : xM_S} (e : F_X5_readsGate p1 σ = some o) {Q : xm_P} {X : xm_X} (hQ : Q none (xMp h0 m ad o)) : xm_Run g M_X5_readsGate 16 [.ref m, .int p1] (xMp h0 m ad σ) 0 0 Q X := by
  refine xm_Run.of pn_StringTableauModel (Nat.le_of_ble_eq_true rfl) (fun Γ hΓ => ?_)
  obtain ⟨P0, hP0, hp⟩ : ∃ P : xM_S → Prop, (∀ o, P o → Q none (xMp h0 m ad o)) ∧ P o := ⟨fun o => Q none (xMp h0 m ad o), fun _ h => h, hQ⟩
  clear hQ
  show xm_W g Γ 0 [some (.ref m), some (.int p1), none, none, none] [] (xMp h0 m ad σ) 0 0
  have hL_179 : ∀  (s : Int32 × xM_S) (o : xM_S), L_X5_readsGate_179  s = some o → P0 o → xm_W g Γ 179 [some (.ref m), none, none, none, some (.int s.1)] [] (xMp h0 m ad s.2) 0 0 := by
    skip
    refine xl_rule (WS := fun s : Int32 × xM_S => xm_W g Γ 179 [some (.ref m), none, none, none, some (.int s.1)] [] (xMp h0 m ad s.2) 0 0) ?_
    intro s o e hp
    obtain ⟨P1, hP1, hp⟩ : ∃ P : (Int32 × xM_S) ⊕ (xM_S) → Prop, (∀ o, P o → xl_P (fun s : Int32 × xM_S => xm_W g Γ 179 [some (.ref m), none, none, none, some (.int s.1)] [] (xMp h0 m ad s.2) 0 0) P0 o) ∧ P o := ⟨_, fun _ h => h, hp⟩
    unfold D_X5_readsGate_179 at e
    refine xw_ild (show xm_Imp g Γ 179 (xi_ild 4 181) from xs_iload hΓ dX5_readsGate_179) rfl ?_
    refine xw_psh (v := (.int (8))) (show xm_Imp g Γ 181 (xi_psh (.int (8)) 183) from xs_bipush hΓ dX5_readsGate_181 (by decide)) ?_
    refine xw_ic (show xm_Imp g Γ 183 (xi_ic (fun x y => y ≤ x) 199 186) from xs_icmp_ge hΓ dX5_readsGate_183 (by decide)) (fun c => ?_) (fun c => ?_)
    · rw [if_pos c] at e
      obtain ⟨_, e, hp⟩ := xl_o_s e (hP1 _ hp)
      exact xw_vret (show xm_Imp g Γ 199 (xi_vret _) from xs_return hΓ rfl dX5_readsGate_199) (hP0 _ (xl_fin e hp))
    · rw [if_neg c] at e
      refine xw_ald (show xm_Imp g Γ 186 (xi_ald 0 187) from xs_aload_n hΓ dX5_readsGate_186) rfl ?_
      refine xw_ild (show xm_Imp g Γ 187 (xi_ild 4 189) from xs_iload hΓ dX5_readsGate_187) rfl ?_
      refine xw_psh (v := (.int (0))) (show xm_Imp g Γ 189 (xi_psh (.int (0)) 190) from xs_iconst hΓ dX5_readsGate_189 (by decide)) ?_
      obtain ⟨v7, e1, e⟩ := xo_b_s e
      refine xw_mu2 (show xm_Imp g Γ 190 (xi_vir g 4 M_X5_lays 2 2 193) from xs_invV hG hΓ k_X5_lays rfl (ci := 4) rfl q3240 q3242 qs88 dX5_readsGate_190) rfl (fun Q X hQ => K_X5_lays hG hM hB s.1 0 s.2 e1 hQ) ?_
      refine xw_inc (v := (1)) (ls' := [some (.ref m), none, none, none, some (.int (s.1 + 1))]) (show xm_Imp g Γ 193 (xi_inc 4 (1) 196) from xs_iinc hΓ dX5_readsGate_193 (by decide) (Nat.le_of_ble_eq_true rfl)) rfl rfl ?_
      refine xw_goto (show xm_Imp g Γ 196 (xi_goto 179) from xs_goto hΓ dX5_readsGate_196 (by decide)) ?_
      have hq := xl_P_inl (hP1 _ (xl_fin e hp)); exact hq
  have hB_170 : ∀ (l1 : Int32) (σ : xM_S) (o : xM_S), B_X5_readsGate_170 l1 σ = some o → P0 o → xm_W g Γ 170 [some (.ref m), some (.int l1), none, none, none] [] (xMp h0 m ad σ) 0 0 := by
    intro l1 σ o e hp
    unfold B_X5_readsGate_170 at e
    refine xw_ald (show xm_Imp g Γ 170 (xi_ald 0 171) from xs_aload_n hΓ dX5_readsGate_170) rfl ?_
    refine xw_psh (v := (.int (3))) (show xm_Imp g Γ 171 (xi_psh (.int (3)) 172) from xs_iconst hΓ dX5_readsGate_171 (by decide)) ?_
    refine xw_ild (show xm_Imp g Γ 172 (xi_ild 1 173) from xs_iload_n hΓ dX5_readsGate_172) rfl ?_
    obtain ⟨v6, e1, e⟩ := xo_b_s e
    refine xw_mu2 (show xm_Imp g Γ 173 (xi_vir g 4 M_X5_lays 2 2 176) from xs_invV hG hΓ k_X5_lays rfl (ci := 4) rfl q3240 q3242 qs88 dX5_readsGate_173) rfl (fun Q X hQ => K_X5_lays hG hM hB 3 l1 σ e1 hQ) ?_
    refine xw_psh (v := (.int (4))) (show xm_Imp g Γ 176 (xi_psh (.int (4)) 177) from xs_iconst hΓ dX5_readsGate_176 (by decide)) ?_
    refine xw_ist (ls' := [some (.ref m), some (.int l1), none, none, some (.int 4)]) (show xm_Imp g Γ 177 (xi_ist 4 179) from xs_istore hΓ dX5_readsGate_177 (Nat.le_of_ble_eq_true rfl)) rfl ?_
    exact xm_lx (hL_179 _ _ e hp) (And.intro rfl (And.intro rfl (trivial)))
  have hB_157 : ∀ (l1 : Int32) (σ : xM_S) (o : xM_S), B_X5_readsGate_157 l1 σ = some o → P0 o → xm_W g Γ 157 [some (.ref m), some (.int l1), none, none, none] [] (xMp h0 m ad σ) 0 0 := by
    intro l1 σ o e hp
    unfold B_X5_readsGate_157 at e
    refine xw_ald (show xm_Imp g Γ 157 (xi_ald 0 158) from xs_aload_n hΓ dX5_readsGate_157) rfl ?_
    refine xw_psh (v := (.int (2))) (show xm_Imp g Γ 158 (xi_psh (.int (2)) 159) from xs_iconst hΓ dX5_readsGate_158 (by decide)) ?_
    refine xw_ald (show xm_Imp g Γ 159 (xi_ald 0 160) from xs_aload_n hΓ dX5_readsGate_159) rfl ?_
    refine xw_mgi (v := (σ.1 26)) (show xm_Imp g Γ 160 (xi_get 4 26 163) from xs_get hG hΓ (ci := 4) (kf := 26) rfl (Nat.le_of_ble_eq_true rfl) q2876 dX5_readsGate_160) (fun _ => rfl) rfl ?_
    obtain ⟨v8, e1, e⟩ := xo_b_s e
    refine xw_mu2 (show xm_Imp g Γ 163 (xi_vir g 4 M_X5_lays 2 2 166) from xs_invV hG hΓ k_X5_lays rfl (ci := 4) rfl q3240 q3242 qs88 dX5_readsGate_163) rfl (fun Q X hQ => K_X5_lays hG hM hB 2 (σ.1 26) σ e1 hQ) ?_
    refine xw_ald (show xm_Imp g Γ 166 (xi_ald 0 167) from xs_aload_n hΓ dX5_readsGate_166) rfl ?_
    obtain ⟨v9, e1, e⟩ := xo_b_s e
    refine xw_mu0 (show xm_Imp g Γ 167 (xi_vir g 4 M_X5_goOn 14 0 170) from xs_invV hG hΓ k_X5_goOn rfl (ci := 4) rfl q3211 q3213 qs81 dX5_readsGate_167) rfl (fun Q X hQ => K_X5_goOn hG hM hB v8 e1 hQ) ?_
    exact hB_170 _ _ _ e hp
  have hB_153 : ∀ (l1 : Int32) (s1 : Int32) (σ : xM_S) (o : xM_S), B_X5_readsGate_153 l1 s1 σ = some o → P0 o → xm_W g Γ 153 [some (.ref m), some (.int l1), none, none, none] [.int s1, .ref m] (xMp h0 m ad σ) 0 0 := by
    intro l1 s1 σ o e hp
    unfold B_X5_readsGate_153 at e
    refine xw_psh (v := (.int (2))) (show xm_Imp g Γ 153 (xi_psh (.int (2)) 154) from xs_iconst hΓ dX5_readsGate_153 (by decide)) ?_
    refine xw_mu2 (show xm_Imp g Γ 154 (xi_vir g 4 M_X5_needs 1 2 157) from xs_invV hG hΓ k_X5_needs rfl (ci := 4) rfl q3207 q3209 qs80 dX5_readsGate_154) rfl (fun Q X hQ => K_X5_needs hG hM hB s1 2 σ rfl hQ) ?_
    exact hB_157 _ _ _ e hp
  have hB_109 : ∀ (l1 : Int32) (l3 : Int32) (s1 : Int32) (σ : xM_S) (o : xM_S), B_X5_readsGate_109 l1 l3 s1 σ = some o → P0 o → xm_W g Γ 109 [some (.ref m), some (.int l1), none, some (.int l3), none] [.int s1, .ref m] (xMp h0 m ad σ) 0 0 := by
    intro l1 l3 s1 σ o e hp
    unfold B_X5_readsGate_109 at e
    refine xw_psh (v := (.int (1))) (show xm_Imp g Γ 109 (xi_psh (.int (1)) 110) from xs_iconst hΓ dX5_readsGate_109 (by decide)) ?_
    refine xw_mu2 (show xm_Imp g Γ 110 (xi_vir g 4 M_X5_needs 1 2 113) from xs_invV hG hΓ k_X5_needs rfl (ci := 4) rfl q3207 q3209 qs80 dX5_readsGate_110) rfl (fun Q X hQ => K_X5_needs hG hM hB s1 1 σ rfl hQ) ?_
    refine xw_ald (show xm_Imp g Γ 113 (xi_ald 0 114) from xs_aload_n hΓ dX5_readsGate_113) rfl ?_
    refine xw_mv0 (show xm_Imp g Γ 114 (xi_vir g 4 M_X5_fine 1 0 117) from xs_invV hG hΓ k_X5_fine rfl (ci := 4) rfl q3203 q3205 qs79 dX5_readsGate_114) rfl (fun Q X hQ => K_X5_fine hG hM hB (F_X5_needs s1 1 σ) rfl hQ) ?_
    refine xw_if (show xm_Imp g Γ 117 (xi_if (fun x => x = 0) 157 120) from xs_if_eq hΓ dX5_readsGate_117 (by decide)) (fun c => ?_) (fun c => ?_)
    · rw [if_pos c] at e
      exact xm_lx (hB_157 _ _ _ e hp) (And.intro rfl (And.intro rfl (trivial)))
    · rw [if_neg c] at e
      refine xw_ald (show xm_Imp g Γ 120 (xi_ald 0 121) from xs_aload_n hΓ dX5_readsGate_120) rfl ?_
      refine xw_ald (show xm_Imp g Γ 121 (xi_ald 0 122) from xs_aload_n hΓ dX5_readsGate_121) rfl ?_
      refine xw_mgi (v := ((F_X5_needs s1 1 σ).1 26)) (show xm_Imp g Γ 122 (xi_get 4 26 125) from xs_get hG hΓ (ci := 4) (kf := 26) rfl (Nat.le_of_ble_eq_true rfl) q2876 dX5_readsGate_122) (fun _ => rfl) rfl ?_
      refine xw_i2l (show xm_Imp g Γ 125 (xi_i2l 126) from xs_i2l hΓ dX5_readsGate_125) ?_
      refine xw_psh (v := (.long 0)) (show xm_Imp g Γ 126 (xi_psh (.long 0) 127) from xs_lconst hΓ dX5_readsGate_126 (by decide)) ?_
      refine xw_ald (show xm_Imp g Γ 127 (xi_ald 0 128) from xs_aload_n hΓ dX5_readsGate_127) rfl ?_
      refine xw_mgi (v := ((F_X5_needs s1 1 σ).1 29)) (show xm_Imp g Γ 128 (xi_get 4 29 131) from xs_get hG hΓ (ci := 4) (kf := 29) rfl (Nat.le_of_ble_eq_true rfl) q2879 dX5_readsGate_128) (fun _ => rfl) rfl ?_
      refine xw_psh (v := (.int (1))) (show xm_Imp g Γ 131 (xi_psh (.int (1)) 132) from xs_iconst hΓ dX5_readsGate_131 (by decide)) ?_
      refine xw_ii (show xm_Imp g Γ 132 (xi_ii (fun x y => x - y) 133) from xs_isub hΓ dX5_readsGate_132) ?_
      refine xw_i2l (show xm_Imp g Γ 133 (xi_i2l 134) from xs_i2l hΓ dX5_readsGate_133) ?_
      refine xw_sv3 (show xm_Imp g Γ 134 (xi_inv g M_X5_isIn 1 3 137) from xs_invS hG hΓ k_X5_isIn rfl q2996 q2997 dX5_readsGate_134) rfl (fun Q X hQ => K_X5_isIn hG (((F_X5_needs s1 1 σ).1 26).toInt64) 0 ((((F_X5_needs s1 1 σ).1 29) - 1).toInt64) rfl hQ) ?_
      refine xw_if (show xm_Imp g Γ 137 (xi_if (fun x => x = 0) 152 140) from xs_if_eq hΓ dX5_readsGate_137 (by decide)) (fun c => ?_) (fun c => ?_)
      · rw [if_pos c] at e
        refine xw_psh (v := (.int (0))) (show xm_Imp g Γ 152 (xi_psh (.int (0)) 153) from xs_iconst hΓ dX5_readsGate_152 (by decide)) ?_
        exact xm_lx (hB_153 _ _ _ _ e hp) (And.intro rfl (And.intro rfl (trivial)))
      · rw [if_neg c] at e
        refine xw_ald (show xm_Imp g Γ 140 (xi_ald 0 141) from xs_aload_n hΓ dX5_readsGate_140) rfl ?_
        refine xw_mgi (v := ((F_X5_needs s1 1 σ).1 26)) (show xm_Imp g Γ 141 (xi_get 4 26 144) from xs_get hG hΓ (ci := 4) (kf := 26) rfl (Nat.le_of_ble_eq_true rfl) q2876 dX5_readsGate_141) (fun _ => rfl) rfl ?_
        refine xw_ild (show xm_Imp g Γ 144 (xi_ild 3 145) from xs_iload_n hΓ dX5_readsGate_144) rfl ?_
        refine xw_ic (show xm_Imp g Γ 145 (xi_ic (fun x y => x = y) 152 148) from xs_icmp_eq hΓ dX5_readsGate_145 (by decide)) (fun c => ?_) (fun c => ?_)
        · rw [if_pos c] at e
          refine xw_psh (v := (.int (0))) (show xm_Imp g Γ 152 (xi_psh (.int (0)) 153) from xs_iconst hΓ dX5_readsGate_152 (by decide)) ?_
          exact xm_lx (hB_153 _ _ _ _ e hp) (And.intro rfl (And.intro rfl (trivial)))
        · rw [if_neg c] at e
          refine xw_psh (v := (.int (1))) (show xm_Imp g Γ 148 (xi_psh (.int (1)) 149) from xs_iconst hΓ dX5_readsGate_148 (by decide)) ?_
          refine xw_goto (show xm_Imp g Γ 149 (xi_goto 153) from xs_goto hΓ dX5_readsGate_149 (by decide)) ?_
          exact xm_lx (hB_153 _ _ _ _ e hp) (And.intro rfl (And.intro rfl (trivial)))
  have hB_43 : ∀ (l1 : Int32) (l2 : Int32) (s1 : Int32) (σ : xM_S) (o : xM_S), B_X5_readsGate_43 l1 l2 s1 σ = some o → P0 o → xm_W g Γ 43 [some (.ref m), some (.int l1), some (.int l2), none, none] [.int s1, .ref m] (xMp h0 m ad σ) 0 0 := by
    intro l1 l2 s1 σ o e hp
    unfold B_X5_readsGate_43 at e
    refine xw_psh (v := (.int (1))) (show xm_Imp g Γ 43 (xi_psh (.int (1)) 44) from xs_iconst hΓ dX5_readsGate_43 (by decide)) ?_
    refine xw_mu2 (show xm_Imp g Γ 44 (xi_vir g 4 M_X5_needs 1 2 47) from xs_invV hG hΓ k_X5_needs rfl (ci := 4) rfl q3207 q3209 qs80 dX5_readsGate_44) rfl (fun Q X hQ => K_X5_needs hG hM hB s1 1 σ rfl hQ) ?_
    refine xw_ald (show xm_Imp g Γ 47 (xi_ald 0 48) from xs_aload_n hΓ dX5_readsGate_47) rfl ?_
    obtain ⟨v1, e1, e⟩ := xo_b_s e
    refine xw_mu0 (show xm_Imp g Γ 48 (xi_vir g 4 M_X5_goOn 14 0 51) from xs_invV hG hΓ k_X5_goOn rfl (ci := 4) rfl q3211 q3213 qs81 dX5_readsGate_48) rfl (fun Q X hQ => K_X5_goOn hG hM hB (F_X5_needs s1 1 σ) e1 hQ) ?_
    refine xw_ald (show xm_Imp g Γ 51 (xi_ald 0 52) from xs_aload_n hΓ dX5_readsGate_51) rfl ?_
    refine xw_psh (v := (.int (0))) (show xm_Imp g Γ 52 (xi_psh (.int (0)) 53) from xs_iconst hΓ dX5_readsGate_52 (by decide)) ?_
    refine xw_ild (show xm_Imp g Γ 53 (xi_ild 2 54) from xs_iload_n hΓ dX5_readsGate_53) rfl ?_
    obtain ⟨v2, e1, e⟩ := xo_b_s e
    refine xw_mu2 (show xm_Imp g Γ 54 (xi_vir g 4 M_X5_lays 2 2 57) from xs_invV hG hΓ k_X5_lays rfl (ci := 4) rfl q3240 q3242 qs88 dX5_readsGate_54) rfl (fun Q X hQ => K_X5_lays hG hM hB 0 l2 v1 e1 hQ) ?_
    refine xw_ald (show xm_Imp g Γ 57 (xi_ald 0 58) from xs_aload_n hΓ dX5_readsGate_57) rfl ?_
    refine xw_psh (v := (.int (0))) (show xm_Imp g Γ 58 (xi_psh (.int (0)) 59) from xs_iconst hΓ dX5_readsGate_58 (by decide)) ?_
    refine xw_ald (show xm_Imp g Γ 59 (xi_ald 0 60) from xs_aload_n hΓ dX5_readsGate_59) rfl ?_
    refine xw_mgi (v := (v2.1 29)) (show xm_Imp g Γ 60 (xi_get 4 29 63) from xs_get hG hΓ (ci := 4) (kf := 29) rfl (Nat.le_of_ble_eq_true rfl) q2879 dX5_readsGate_60) (fun _ => rfl) rfl ?_
    refine xw_psh (v := (.int (1))) (show xm_Imp g Γ 63 (xi_psh (.int (1)) 64) from xs_iconst hΓ dX5_readsGate_63 (by decide)) ?_
    refine xw_ii (show xm_Imp g Γ 64 (xi_ii (fun x y => x - y) 65) from xs_isub hΓ dX5_readsGate_64) ?_
    refine xw_psh (v := (.int (2))) (show xm_Imp g Γ 65 (xi_psh (.int (2)) 66) from xs_iconst hΓ dX5_readsGate_65 (by decide)) ?_
    obtain ⟨v3, e1, e⟩ := xo_b_s e
    refine xw_mv3 (show xm_Imp g Γ 66 (xi_vir g 4 M_X5_reads 15 3 69) from xs_invV hG hΓ k_X5_reads rfl (ci := 4) rfl q3215 q3217 qs82 dX5_readsGate_66) rfl (fun Q X hQ => K_X5_reads hG hM hB 0 ((v2.1 29) - 1) 2 v2 e1 hQ) ?_
    refine xw_ist (ls' := [some (.ref m), some (.int l1), some (.int l2), some (.int v3.1), none]) (show xm_Imp g Γ 69 (xi_ist 3 70) from xs_istore_n hΓ dX5_readsGate_69 (Nat.le_of_ble_eq_true rfl)) rfl ?_
    refine xw_ald (show xm_Imp g Γ 70 (xi_ald 0 71) from xs_aload_n hΓ dX5_readsGate_70) rfl ?_
    refine xw_psh (v := (.int (1))) (show xm_Imp g Γ 71 (xi_psh (.int (1)) 72) from xs_iconst hΓ dX5_readsGate_71 (by decide)) ?_
    refine xw_ild (show xm_Imp g Γ 72 (xi_ild 3 73) from xs_iload_n hΓ dX5_readsGate_72) rfl ?_
    obtain ⟨v4, e1, e⟩ := xo_b_s e
    refine xw_mu2 (show xm_Imp g Γ 73 (xi_vir g 4 M_X5_lays 2 2 76) from xs_invV hG hΓ k_X5_lays rfl (ci := 4) rfl q3240 q3242 qs88 dX5_readsGate_73) rfl (fun Q X hQ => K_X5_lays hG hM hB 1 v3.1 v3.2 e1 hQ) ?_
    refine xw_ald (show xm_Imp g Γ 76 (xi_ald 0 77) from xs_aload_n hΓ dX5_readsGate_76) rfl ?_
    refine xw_psh (v := (.int (2))) (show xm_Imp g Γ 77 (xi_psh (.int (2)) 78) from xs_iconst hΓ dX5_readsGate_77 (by decide)) ?_
    refine xw_psh (v := (.int (-1))) (show xm_Imp g Γ 78 (xi_psh (.int (-1)) 79) from xs_iconst hΓ dX5_readsGate_78 (by decide)) ?_
    obtain ⟨v5, e1, e⟩ := xo_b_s e
    refine xw_mu2 (show xm_Imp g Γ 79 (xi_vir g 4 M_X5_lays 2 2 82) from xs_invV hG hΓ k_X5_lays rfl (ci := 4) rfl q3240 q3242 qs88 dX5_readsGate_79) rfl (fun Q X hQ => K_X5_lays hG hM hB 2 (-1) v4 e1 hQ) ?_
    refine xw_ald (show xm_Imp g Γ 82 (xi_ald 0 83) from xs_aload_n hΓ dX5_readsGate_82) rfl ?_
    refine xw_mv0 (show xm_Imp g Γ 83 (xi_vir g 4 M_X5_fine 1 0 86) from xs_invV hG hΓ k_X5_fine rfl (ci := 4) rfl q3203 q3205 qs79 dX5_readsGate_83) rfl (fun Q X hQ => K_X5_fine hG hM hB v5 rfl hQ) ?_
    refine xw_if (show xm_Imp g Γ 86 (xi_if (fun x => x = 0) 170 89) from xs_if_eq hΓ dX5_readsGate_86 (by decide)) (fun c => ?_) (fun c => ?_)
    · rw [if_pos c] at e
      exact xm_lx (hB_170 _ _ _ e hp) (And.intro rfl (And.intro rfl (trivial)))
    · rw [if_neg c] at e
      refine xw_ild (show xm_Imp g Γ 89 (xi_ild 2 90) from xs_iload_n hΓ dX5_readsGate_89) rfl ?_
      refine xw_psh (v := (.int (6))) (show xm_Imp g Γ 90 (xi_psh (.int (6)) 92) from xs_bipush hΓ dX5_readsGate_90 (by decide)) ?_
      refine xw_ic (show xm_Imp g Γ 92 (xi_ic (fun x y => x < y) 170 95) from xs_icmp_lt hΓ dX5_readsGate_92 (by decide)) (fun c => ?_) (fun c => ?_)
      · rw [if_pos c] at e
        exact xm_lx (hB_170 _ _ _ e hp) (And.intro rfl (And.intro rfl (trivial)))
      · rw [if_neg c] at e
        refine xw_ald (show xm_Imp g Γ 95 (xi_ald 0 96) from xs_aload_n hΓ dX5_readsGate_95) rfl ?_
        refine xw_ald (show xm_Imp g Γ 96 (xi_ald 0 97) from xs_aload_n hΓ dX5_readsGate_96) rfl ?_
        refine xw_mgi (v := (v5.1 24)) (show xm_Imp g Γ 97 (xi_get 4 24 100) from xs_get hG hΓ (ci := 4) (kf := 24) rfl (Nat.le_of_ble_eq_true rfl) q2874 dX5_readsGate_97) (fun _ => rfl) rfl ?_
        refine xw_psh (v := (.int (3))) (show xm_Imp g Γ 100 (xi_psh (.int (3)) 101) from xs_iconst hΓ dX5_readsGate_100 (by decide)) ?_
        refine xw_ic (show xm_Imp g Γ 101 (xi_ic (fun x y => x = y) 104 108) from xs_icmp_ne hΓ dX5_readsGate_101 (by decide)) (fun c => ?_) (fun c => ?_)
        · rw [if_pos c] at e
          refine xw_psh (v := (.int (1))) (show xm_Imp g Γ 104 (xi_psh (.int (1)) 105) from xs_iconst hΓ dX5_readsGate_104 (by decide)) ?_
          refine xw_goto (show xm_Imp g Γ 105 (xi_goto 109) from xs_goto hΓ dX5_readsGate_105 (by decide)) ?_
          exact xm_lx (hB_109 _ _ _ _ _ e hp) (And.intro rfl (And.intro rfl (And.intro rfl (trivial))))
        · rw [if_neg c] at e
          refine xw_psh (v := (.int (0))) (show xm_Imp g Γ 108 (xi_psh (.int (0)) 109) from xs_iconst hΓ dX5_readsGate_108 (by decide)) ?_
          exact xm_lx (hB_109 _ _ _ _ _ e hp) (And.intro rfl (And.intro rfl (And.intro rfl (trivial))))
  have hB_31 : ∀ (l1 : Int32) (s0 : Int32) (σ : xM_S) (o : xM_S), B_X5_readsGate_31 l1 s0 σ = some o → P0 o → xm_W g Γ 31 [some (.ref m), some (.int l1), none, none, none] [.int s0] (xMp h0 m ad σ) 0 0 := by
    intro l1 s0 σ o e hp
    unfold B_X5_readsGate_31 at e
    refine xw_ist (ls' := [some (.ref m), some (.int l1), some (.int s0), none, none]) (show xm_Imp g Γ 31 (xi_ist 2 32) from xs_istore_n hΓ dX5_readsGate_31 (Nat.le_of_ble_eq_true rfl)) rfl ?_
    refine xw_ald (show xm_Imp g Γ 32 (xi_ald 0 33) from xs_aload_n hΓ dX5_readsGate_32) rfl ?_
    refine xw_ild (show xm_Imp g Γ 33 (xi_ild 2 34) from xs_iload_n hΓ dX5_readsGate_33) rfl ?_
    refine xw_psh (v := (.int (-1))) (show xm_Imp g Γ 34 (xi_psh (.int (-1)) 35) from xs_iconst hΓ dX5_readsGate_34 (by decide)) ?_
    refine xw_ic (show xm_Imp g Γ 35 (xi_ic (fun x y => x = y) 42 38) from xs_icmp_eq hΓ dX5_readsGate_35 (by decide)) (fun c => ?_) (fun c => ?_)
    · rw [if_pos c] at e
      refine xw_psh (v := (.int (0))) (show xm_Imp g Γ 42 (xi_psh (.int (0)) 43) from xs_iconst hΓ dX5_readsGate_42 (by decide)) ?_
      exact hB_43 _ _ _ _ _ e hp
    · rw [if_neg c] at e
      refine xw_psh (v := (.int (1))) (show xm_Imp g Γ 38 (xi_psh (.int (1)) 39) from xs_iconst hΓ dX5_readsGate_38 (by decide)) ?_
      refine xw_goto (show xm_Imp g Γ 39 (xi_goto 43) from xs_goto hΓ dX5_readsGate_39 (by decide)) ?_
      exact hB_43 _ _ _ _ _ e hp
  unfold F_X5_readsGate at e
  refine xw_ald (show xm_Imp g Γ 0 (xi_ald 0 1) from xs_aload_n hΓ dX5_readsGate_0) rfl ?_
  refine xw_mgi (v := (σ.1 24)) (show xm_Imp g Γ 1 (xi_get 4 24 4) from xs_get hG hΓ (ci := 4) (kf := 24) rfl (Nat.le_of_ble_eq_true rfl) q2874 dX5_readsGate_1) (fun _ => rfl) rfl ?_
  refine xw_psh (v := (.int (1))) (show xm_Imp g Γ 4 (xi_psh (.int (1)) 5) from xs_iconst hΓ dX5_readsGate_4 (by decide)) ?_
  refine xw_ic (show xm_Imp g Γ 5 (xi_ic (fun x y => x = y) 8 30) from xs_icmp_ne hΓ dX5_readsGate_5 (by decide)) (fun c => ?_) (fun c => ?_)
  · rw [if_pos c] at e
    refine xw_ald (show xm_Imp g Γ 8 (xi_ald 0 9) from xs_aload_n hΓ dX5_readsGate_8) rfl ?_
    refine xw_mgi (v := (σ.1 25)) (show xm_Imp g Γ 9 (xi_get 4 25 12) from xs_get hG hΓ (ci := 4) (kf := 25) rfl (Nat.le_of_ble_eq_true rfl) q2875 dX5_readsGate_9) (fun _ => rfl) rfl ?_
    refine xw_i2l (show xm_Imp g Γ 12 (xi_i2l 13) from xs_i2l hΓ dX5_readsGate_12) ?_
    refine xw_psh (v := (.long 0)) (show xm_Imp g Γ 13 (xi_psh (.long 0) 14) from xs_lconst hΓ dX5_readsGate_13 (by decide)) ?_
    refine xw_psh (v := (.long (8))) (show xm_Imp g Γ 14 (xi_psh (.long (8)) 17) from xs_ldc2 hG hΓ q2995 dX5_readsGate_14) ?_
    refine xw_sv3 (show xm_Imp g Γ 17 (xi_inv g M_X5_isIn 1 3 20) from xs_invS hG hΓ k_X5_isIn rfl q2996 q2997 dX5_readsGate_17) rfl (fun Q X hQ => K_X5_isIn hG ((σ.1 25).toInt64) 0 8 rfl hQ) ?_
    refine xw_if (show xm_Imp g Γ 20 (xi_if (fun x => x = 0) 30 23) from xs_if_eq hΓ dX5_readsGate_20 (by decide)) (fun c => ?_) (fun c => ?_)
    · rw [if_pos c] at e
      refine xw_psh (v := (.int (-1))) (show xm_Imp g Γ 30 (xi_psh (.int (-1)) 31) from xs_iconst hΓ dX5_readsGate_30 (by decide)) ?_
      exact hB_31 _ _ _ _ e hp
    · rw [if_neg c] at e
      refine xw_ald (show xm_Imp g Γ 23 (xi_ald 0 24) from xs_aload_n hΓ dX5_readsGate_23) rfl ?_
      refine xw_mgi (v := (σ.1 25)) (show xm_Imp g Γ 24 (xi_get 4 25 27) from xs_get hG hΓ (ci := 4) (kf := 25) rfl (Nat.le_of_ble_eq_true rfl) q2875 dX5_readsGate_24) (fun _ => rfl) rfl ?_
      refine xw_goto (show xm_Imp g Γ 27 (xi_goto 31) from xs_goto hΓ dX5_readsGate_27 (by decide)) ?_
      exact hB_31 _ _ _ _ e hp
  · rw [if_neg c] at e
    refine xw_psh (v := (.int (-1))) (show xm_Imp g Γ 30 (xi_psh (.int (-1)) 31) from xs_iconst hΓ dX5_readsGate_30 (by decide)) ?_
    exact hB_31 _ _ _ _ e hp
noncomputable def B_X5_operates_42 (l1 : Int32) (σ : xM_S) : Option (xM_S) :=
 (if (F_X5_fine σ) = 0 then
 some σ else
 xo_b (F_X5_readsGate l1 σ) (fun v1 =>
 some v1))
noncomputable def F_X5_operates (σ : xM_S) : Option (xM_S) :=
 (if (F_X5_isWord 9 σ) = 0 then
 (if (F_X5_isWord 10 σ) = 0 then
 B_X5_operates_42 (-1) σ else
 xo_b (F_X5_goOn σ) (fun v2 =>
 xo_b (F_X5_reads 0 ((v2.1 32) - 1) 3 v2) (fun v3 =>
 B_X5_operates_42 v3.1 v3.2))) else
 xo_b (F_X5_readsMeasure σ) (fun v4 =>
 some v4))
set_option maxHeartbeats 4000000 in
theorem K_X5_operates {g : xm_G} (hG : xm_Gw g) {h0 : xm_H} {m : Nat} {ad : Nat → Nat} (hM : xM_ok h0 m ad) (hB : xk_B g h0)  (σ : xM_S) {o : xM_S} (e : F_X5_operates σ = some o) {Q : xm_P} {X : xm_X} (hQ : Q none (xMp h0 m ad o)) : xm_Run g M_X5_operates 17 [.ref m] (xMp h0 m ad σ) 0 0 Q X := by
  refine xm_Run.of pn_StringTableauModel (Nat.le_of_ble_eq_true rfl) (fun Γ hΓ => ?_)
  obtain ⟨P0, hP0, hp⟩ : ∃ P : xM_S → Prop, (∀ o, P o → Q none (xMp h0 m ad o)) ∧ P o := ⟨fun o => Q none (xMp h0 m ad o), fun _ h => h, hQ⟩
  clear hQ
  show xm_W g Γ 0 [some (.ref m), none] [] (xMp h0 m ad σ) 0 0
  have hB_42 : ∀ (l1 : Int32) (σ : xM_S) (o : xM_S), B_X5_operates_42 l1 σ = some o → P0 o → xm_W g Γ 42 [some (.ref m), some (.int l1)] [] (xMp h0 m ad σ) 0 0 := by
    intro l1 σ o e hp
    unfold B_X5_operates_42 at e
    refine xw_ald (show xm_Imp g Γ 42 (xi_ald 0 43) from xs_aload_n hΓ dX5_operates_42) rfl ?_
    refine xw_mv0 (show xm_Imp g Γ 43 (xi_vir g 4 M_X5_fine 1 0 46) from xs_invV hG hΓ k_X5_fine rfl (ci := 4) rfl q3203 q3205 qs79 dX5_operates_43) rfl (fun Q X hQ => K_X5_fine hG hM hB σ rfl hQ) ?_
    refine xw_if (show xm_Imp g Γ 46 (xi_if (fun x => x = 0) 54 49) from xs_if_eq hΓ dX5_operates_46 (by decide)) (fun c => ?_) (fun c => ?_)
    · rw [if_pos c] at e
      exact xw_vret (show xm_Imp g Γ 54 (xi_vret _) from xs_return hΓ rfl dX5_operates_54) (hP0 _ (xl_fin e hp))
    · rw [if_neg c] at e
      refine xw_ald (show xm_Imp g Γ 49 (xi_ald 0 50) from xs_aload_n hΓ dX5_operates_49) rfl ?_
      refine xw_ild (show xm_Imp g Γ 50 (xi_ild 1 51) from xs_iload_n hΓ dX5_operates_50) rfl ?_
      obtain ⟨v1, e1, e⟩ := xo_b_s e
      refine xw_mu1 (show xm_Imp g Γ 51 (xi_vir g 4 M_X5_readsGate 16 1 54) from xs_invV hG hΓ k_X5_readsGate rfl (ci := 4) rfl q3252 q3254 qs91 dX5_operates_51) rfl (fun Q X hQ => K_X5_readsGate hG hM hB l1 σ e1 hQ) ?_
      exact xw_vret (show xm_Imp g Γ 54 (xi_vret _) from xs_return hΓ rfl dX5_operates_54) (hP0 _ (xl_fin e hp))
  unfold F_X5_operates at e
  refine xw_ald (show xm_Imp g Γ 0 (xi_ald 0 1) from xs_aload_n hΓ dX5_operates_0) rfl ?_
  refine xw_psh (v := (.int (9))) (show xm_Imp g Γ 1 (xi_psh (.int (9)) 3) from xs_bipush hΓ dX5_operates_1 (by decide)) ?_
  refine xw_mv1 (show xm_Imp g Γ 3 (xi_vir g 4 M_X5_isWord 2 1 6) from xs_invV hG hΓ k_X5_isWord rfl (ci := 4) rfl q3199 q3201 qs78 dX5_operates_3) rfl (fun Q X hQ => K_X5_isWord hG hM hB 9 σ rfl hQ) ?_
  refine xw_if (show xm_Imp g Γ 6 (xi_if (fun x => x = 0) 14 9) from xs_if_eq hΓ dX5_operates_6 (by decide)) (fun c => ?_) (fun c => ?_)
  · rw [if_pos c] at e
    refine xw_psh (v := (.int (-1))) (show xm_Imp g Γ 14 (xi_psh (.int (-1)) 15) from xs_iconst hΓ dX5_operates_14 (by decide)) ?_
    refine xw_ist (ls' := [some (.ref m), some (.int (-1))]) (show xm_Imp g Γ 15 (xi_ist 1 16) from xs_istore_n hΓ dX5_operates_15 (Nat.le_of_ble_eq_true rfl)) rfl ?_
    refine xw_ald (show xm_Imp g Γ 16 (xi_ald 0 17) from xs_aload_n hΓ dX5_operates_16) rfl ?_
    refine xw_psh (v := (.int (10))) (show xm_Imp g Γ 17 (xi_psh (.int (10)) 19) from xs_bipush hΓ dX5_operates_17 (by decide)) ?_
    refine xw_mv1 (show xm_Imp g Γ 19 (xi_vir g 4 M_X5_isWord 2 1 22) from xs_invV hG hΓ k_X5_isWord rfl (ci := 4) rfl q3199 q3201 qs78 dX5_operates_19) rfl (fun Q X hQ => K_X5_isWord hG hM hB 10 σ rfl hQ) ?_
    refine xw_if (show xm_Imp g Γ 22 (xi_if (fun x => x = 0) 42 25) from xs_if_eq hΓ dX5_operates_22 (by decide)) (fun c => ?_) (fun c => ?_)
    · rw [if_pos c] at e
      exact hB_42 _ _ _ e hp
    · rw [if_neg c] at e
      refine xw_ald (show xm_Imp g Γ 25 (xi_ald 0 26) from xs_aload_n hΓ dX5_operates_25) rfl ?_
      obtain ⟨v2, e1, e⟩ := xo_b_s e
      refine xw_mu0 (show xm_Imp g Γ 26 (xi_vir g 4 M_X5_goOn 14 0 29) from xs_invV hG hΓ k_X5_goOn rfl (ci := 4) rfl q3211 q3213 qs81 dX5_operates_26) rfl (fun Q X hQ => K_X5_goOn hG hM hB σ e1 hQ) ?_
      refine xw_ald (show xm_Imp g Γ 29 (xi_ald 0 30) from xs_aload_n hΓ dX5_operates_29) rfl ?_
      refine xw_psh (v := (.int (0))) (show xm_Imp g Γ 30 (xi_psh (.int (0)) 31) from xs_iconst hΓ dX5_operates_30 (by decide)) ?_
      refine xw_ald (show xm_Imp g Γ 31 (xi_ald 0 32) from xs_aload_n hΓ dX5_operates_31) rfl ?_
      refine xw_mgi (v := (v2.1 32)) (show xm_Imp g Γ 32 (xi_get 4 32 35) from xs_get hG hΓ (ci := 4) (kf := 32) rfl (Nat.le_of_ble_eq_true rfl) q2882 dX5_operates_32) (fun _ => rfl) rfl ?_
      refine xw_psh (v := (.int (1))) (show xm_Imp g Γ 35 (xi_psh (.int (1)) 36) from xs_iconst hΓ dX5_operates_35 (by decide)) ?_
      refine xw_ii (show xm_Imp g Γ 36 (xi_ii (fun x y => x - y) 37) from xs_isub hΓ dX5_operates_36) ?_
      refine xw_psh (v := (.int (3))) (show xm_Imp g Γ 37 (xi_psh (.int (3)) 38) from xs_iconst hΓ dX5_operates_37 (by decide)) ?_
      obtain ⟨v3, e1, e⟩ := xo_b_s e
      refine xw_mv3 (show xm_Imp g Γ 38 (xi_vir g 4 M_X5_reads 15 3 41) from xs_invV hG hΓ k_X5_reads rfl (ci := 4) rfl q3215 q3217 qs82 dX5_operates_38) rfl (fun Q X hQ => K_X5_reads hG hM hB 0 ((v2.1 32) - 1) 3 v2 e1 hQ) ?_
      refine xw_ist (ls' := [some (.ref m), some (.int v3.1)]) (show xm_Imp g Γ 41 (xi_ist 1 42) from xs_istore_n hΓ dX5_operates_41 (Nat.le_of_ble_eq_true rfl)) rfl ?_
      exact hB_42 _ _ _ e hp
  · rw [if_neg c] at e
    refine xw_ald (show xm_Imp g Γ 9 (xi_ald 0 10) from xs_aload_n hΓ dX5_operates_9) rfl ?_
    obtain ⟨v4, e1, e⟩ := xo_b_s e
    refine xw_mu0 (show xm_Imp g Γ 10 (xi_vir g 4 M_X5_readsMeasure 16 0 13) from xs_invV hG hΓ k_X5_readsMeasure rfl (ci := 4) rfl q3236 q3238 qs87 dX5_operates_10) rfl (fun Q X hQ => K_X5_readsMeasure hG hM hB σ e1 hQ) ?_
    exact xw_vret (show xm_Imp g Γ 13 (xi_vret _) from xs_return hΓ rfl dX5_operates_13) (hP0 _ (xl_fin e hp))
noncomputable def B_X5_statement_170 (σ : xM_S) : Option (xM_S) :=
 xo_b (F_X5_passesSemicolon σ) (fun v2 =>
 some v2)
noncomputable def B_X5_statement_112 (l1 : Int32) (σ : xM_S) : Option (xM_S) :=
 (if (F_X5_fine σ) = 0 then
 some σ else
 (if l1 = 0 then
 xo_b (F_X5_operates σ) (fun v1 =>
 (if (F_X5_fine v1) = 0 then
 B_X5_statement_170 v1 else
 B_X5_statement_170 (xM_f v1 34 ((v1.1 34) + 1)))) else
 xo_b (F_X5_goOn (xM_f σ 31 1)) (fun v3 =>
 xo_b (F_X5_reads 0 9999 2 v3) (fun v4 =>
 B_X5_statement_170 (xM_f v4.2 30 v4.1)))))
noncomputable def B_X5_statement_108 (l1 : Int32) (s1 : Int32) (σ : xM_S) : Option (xM_S) :=
 B_X5_statement_112 l1 (F_X5_needs s1 4 σ)
noncomputable def B_X5_statement_82 (l1 : Int32) (l2 : Int32) (σ : xM_S) : Option (xM_S) :=
 (if (F_X5_fine σ) = 0 then
 B_X5_statement_112 l1 σ else
 (if l2 = 0 then
 B_X5_statement_112 l1 σ else
 B_X5_statement_108 l1 (if 60 ≤ (σ.1 34) then 0 else 1) σ))
noncomputable def B_X5_statement_78 (l1 : Int32) (l2 : Int32) (s1 : Int32) (σ : xM_S) : Option (xM_S) :=
 B_X5_statement_82 l1 l2 (F_X5_needs s1 3 σ)
noncomputable def B_X5_statement_50 (l1 : Int32) (l2 : Int32) (s1 : Int32) (σ : xM_S) : Option (xM_S) :=
 (if (F_X5_fine (F_X5_needs s1 1 σ)) = 0 then
 B_X5_statement_82 l1 l2 (F_X5_needs s1 1 σ) else
 (if l1 = 0 then
 B_X5_statement_82 l1 l2 (F_X5_needs s1 1 σ) else
 B_X5_statement_78 l1 l2 (if ((F_X5_needs s1 1 σ).1 31) = 0 then 1 else 0) (F_X5_needs s1 1 σ)))
noncomputable def B_X5_statement_35 (l1 : Int32) (s0 : Int32) (σ : xM_S) : Option (xM_S) :=
 B_X5_statement_50 l1 s0 (if l1 = 0 then (if s0 = 0 then 0 else 1) else 1) σ
noncomputable def F_X5_statement (σ : xM_S) : Option (xM_S) :=
 B_X5_statement_35 (F_X5_isWord 11 σ) (if (σ.1 24) = 1 then (if (F_X5_isIn ((σ.1 25).toInt64) 0 10) = 0 then 0 else 1) else 0) σ
set_option maxHeartbeats 4000000 in
theorem K_X5_statement {g : xm_G} (hG : xm_Gw g) {h0 : xm_H} {m : Nat} {ad : Nat → Nat} (hM : xM_ok h0 m ad) (hB : xk_B g h0)  (σ : xM_S) {o : xM_S} (e : F_X5_statement σ = some o) {Q : xm_P} {X : xm_X} (hQ : Q none (xMp h0 m ad o)) : xm_Run g M_X5_statement 18 [.ref m] (xMp h0 m ad σ) 0 0 Q X := by
  refine xm_Run.of pn_StringTableauModel (Nat.le_of_ble_eq_true rfl) (fun Γ hΓ => ?_)
  obtain ⟨P0, hP0, hp⟩ : ∃ P : xM_S → Prop, (∀ o, P o → Q none (xMp h0 m ad o)) ∧ P o := ⟨fun o => Q none (xMp h0 m ad o), fun _ h => h, hQ⟩
  clear hQ
  show xm_W g Γ 0 [some (.ref m), none, none] [] (xMp h0 m ad σ) 0 0
  have hB_170 : ∀ (σ : xM_S) (o : xM_S), B_X5_statement_170 σ = some o → P0 o → xm_W g Γ 170 [some (.ref m), none, none] [] (xMp h0 m ad σ) 0 0 := by
    intro σ o e hp
    unfold B_X5_statement_170 at e
    refine xw_ald (show xm_Imp g Γ 170 (xi_ald 0 171) from xs_aload_n hΓ dX5_statement_170) rfl ?_
    obtain ⟨v2, e1, e⟩ := xo_b_s e
    refine xw_mu0 (show xm_Imp g Γ 171 (xi_vir g 4 M_X5_passesSemicolon 15 0 174) from xs_invV hG hΓ k_X5_passesSemicolon rfl (ci := 4) rfl q3219 q3221 qs83 dX5_statement_171) rfl (fun Q X hQ => K_X5_passesSemicolon hG hM hB σ e1 hQ) ?_
    exact xw_vret (show xm_Imp g Γ 174 (xi_vret _) from xs_return hΓ rfl dX5_statement_174) (hP0 _ (xl_fin e hp))
  have hB_112 : ∀ (l1 : Int32) (σ : xM_S) (o : xM_S), B_X5_statement_112 l1 σ = some o → P0 o → xm_W g Γ 112 [some (.ref m), some (.int l1), none] [] (xMp h0 m ad σ) 0 0 := by
    intro l1 σ o e hp
    unfold B_X5_statement_112 at e
    refine xw_ald (show xm_Imp g Γ 112 (xi_ald 0 113) from xs_aload_n hΓ dX5_statement_112) rfl ?_
    refine xw_mv0 (show xm_Imp g Γ 113 (xi_vir g 4 M_X5_fine 1 0 116) from xs_invV hG hΓ k_X5_fine rfl (ci := 4) rfl q3203 q3205 qs79 dX5_statement_113) rfl (fun Q X hQ => K_X5_fine hG hM hB σ rfl hQ) ?_
    refine xw_if (show xm_Imp g Γ 116 (xi_if (fun x => x = 0) 119 120) from xs_if_ne hΓ dX5_statement_116 (by decide)) (fun c => ?_) (fun c => ?_)
    · rw [if_pos c] at e
      exact xw_vret (show xm_Imp g Γ 119 (xi_vret _) from xs_return hΓ rfl dX5_statement_119) (hP0 _ (xl_fin e hp))
    · rw [if_neg c] at e
      refine xw_ild (show xm_Imp g Γ 120 (xi_ild 1 121) from xs_iload_n hΓ dX5_statement_120) rfl ?_
      refine xw_if (show xm_Imp g Γ 121 (xi_if (fun x => x = 0) 149 124) from xs_if_eq hΓ dX5_statement_121 (by decide)) (fun c => ?_) (fun c => ?_)
      · rw [if_pos c] at e
        refine xw_ald (show xm_Imp g Γ 149 (xi_ald 0 150) from xs_aload_n hΓ dX5_statement_149) rfl ?_
        obtain ⟨v1, e1, e⟩ := xo_b_s e
        refine xw_mu0 (show xm_Imp g Γ 150 (xi_vir g 4 M_X5_operates 17 0 153) from xs_invV hG hΓ k_X5_operates rfl (ci := 4) rfl q3232 q3234 qs86 dX5_statement_150) rfl (fun Q X hQ => K_X5_operates hG hM hB σ e1 hQ) ?_
        refine xw_ald (show xm_Imp g Γ 153 (xi_ald 0 154) from xs_aload_n hΓ dX5_statement_153) rfl ?_
        refine xw_mv0 (show xm_Imp g Γ 154 (xi_vir g 4 M_X5_fine 1 0 157) from xs_invV hG hΓ k_X5_fine rfl (ci := 4) rfl q3203 q3205 qs79 dX5_statement_154) rfl (fun Q X hQ => K_X5_fine hG hM hB v1 rfl hQ) ?_
        refine xw_if (show xm_Imp g Γ 157 (xi_if (fun x => x = 0) 170 160) from xs_if_eq hΓ dX5_statement_157 (by decide)) (fun c => ?_) (fun c => ?_)
        · rw [if_pos c] at e
          exact xm_lx (hB_170 _ _ e hp) (And.intro rfl (trivial))
        · rw [if_neg c] at e
          refine xw_ald (show xm_Imp g Γ 160 (xi_ald 0 161) from xs_aload_n hΓ dX5_statement_160) rfl ?_
          refine xw_ald (show xm_Imp g Γ 161 (xi_ald 0 162) from xs_aload_n hΓ dX5_statement_161) rfl ?_
          refine xw_mgi (v := (v1.1 34)) (show xm_Imp g Γ 162 (xi_get 4 34 165) from xs_get hG hΓ (ci := 4) (kf := 34) rfl (Nat.le_of_ble_eq_true rfl) q2884 dX5_statement_162) (fun _ => rfl) rfl ?_
          refine xw_psh (v := (.int (1))) (show xm_Imp g Γ 165 (xi_psh (.int (1)) 166) from xs_iconst hΓ dX5_statement_165 (by decide)) ?_
          refine xw_ii (show xm_Imp g Γ 166 (xi_ii (fun x y => x + y) 167) from xs_iadd hΓ dX5_statement_166) ?_
          refine xw_mpi (show xm_Imp g Γ 167 (xi_put 4 34 (.int) 170) from xs_put hG hΓ (ci := 4) (kf := 34) rfl (Nat.le_of_ble_eq_true rfl) rfl (by decide +kernel) q2884 dX5_statement_167) (fun _ _ => rfl) ⟨rfl, rfl⟩ ?_
          exact xm_lx (hB_170 _ _ e hp) (And.intro rfl (trivial))
      · rw [if_neg c] at e
        refine xw_ald (show xm_Imp g Γ 124 (xi_ald 0 125) from xs_aload_n hΓ dX5_statement_124) rfl ?_
        refine xw_psh (v := (.int (1))) (show xm_Imp g Γ 125 (xi_psh (.int (1)) 126) from xs_iconst hΓ dX5_statement_125 (by decide)) ?_
        refine xw_mpi (show xm_Imp g Γ 126 (xi_put 4 31 (.boolean) 129) from xs_put hG hΓ (ci := 4) (kf := 31) rfl (Nat.le_of_ble_eq_true rfl) rfl (by decide +kernel) q2881 dX5_statement_126) (fun _ _ => rfl) ⟨rfl, rfl⟩ ?_
        refine xw_ald (show xm_Imp g Γ 129 (xi_ald 0 130) from xs_aload_n hΓ dX5_statement_129) rfl ?_
        obtain ⟨v3, e1, e⟩ := xo_b_s e
        refine xw_mu0 (show xm_Imp g Γ 130 (xi_vir g 4 M_X5_goOn 14 0 133) from xs_invV hG hΓ k_X5_goOn rfl (ci := 4) rfl q3211 q3213 qs81 dX5_statement_130) rfl (fun Q X hQ => K_X5_goOn hG hM hB (xM_f σ 31 1) e1 hQ) ?_
        refine xw_ald (show xm_Imp g Γ 133 (xi_ald 0 134) from xs_aload_n hΓ dX5_statement_133) rfl ?_
        refine xw_ald (show xm_Imp g Γ 134 (xi_ald 0 135) from xs_aload_n hΓ dX5_statement_134) rfl ?_
        refine xw_psh (v := (.int (0))) (show xm_Imp g Γ 135 (xi_psh (.int (0)) 136) from xs_iconst hΓ dX5_statement_135 (by decide)) ?_
        refine xw_psh (v := (.int (9999))) (show xm_Imp g Γ 136 (xi_psh (.int (9999)) 139) from xs_sipush hΓ dX5_statement_136 (by decide)) ?_
        refine xw_psh (v := (.int (2))) (show xm_Imp g Γ 139 (xi_psh (.int (2)) 140) from xs_iconst hΓ dX5_statement_139 (by decide)) ?_
        obtain ⟨v4, e1, e⟩ := xo_b_s e
        refine xw_mv3 (show xm_Imp g Γ 140 (xi_vir g 4 M_X5_reads 15 3 143) from xs_invV hG hΓ k_X5_reads rfl (ci := 4) rfl q3215 q3217 qs82 dX5_statement_140) rfl (fun Q X hQ => K_X5_reads hG hM hB 0 9999 2 v3 e1 hQ) ?_
        refine xw_mpi (show xm_Imp g Γ 143 (xi_put 4 30 (.int) 146) from xs_put hG hΓ (ci := 4) (kf := 30) rfl (Nat.le_of_ble_eq_true rfl) rfl (by decide +kernel) q2880 dX5_statement_143) (fun _ _ => rfl) ⟨rfl, rfl⟩ ?_
        refine xw_goto (show xm_Imp g Γ 146 (xi_goto 170) from xs_goto hΓ dX5_statement_146 (by decide)) ?_
        exact xm_lx (hB_170 _ _ e hp) (And.intro rfl (trivial))
  have hB_108 : ∀ (l1 : Int32) (s1 : Int32) (σ : xM_S) (o : xM_S), B_X5_statement_108 l1 s1 σ = some o → P0 o → xm_W g Γ 108 [some (.ref m), some (.int l1), none] [.int s1, .ref m] (xMp h0 m ad σ) 0 0 := by
    intro l1 s1 σ o e hp
    unfold B_X5_statement_108 at e
    refine xw_psh (v := (.int (4))) (show xm_Imp g Γ 108 (xi_psh (.int (4)) 109) from xs_iconst hΓ dX5_statement_108 (by decide)) ?_
    refine xw_mu2 (show xm_Imp g Γ 109 (xi_vir g 4 M_X5_needs 1 2 112) from xs_invV hG hΓ k_X5_needs rfl (ci := 4) rfl q3207 q3209 qs80 dX5_statement_109) rfl (fun Q X hQ => K_X5_needs hG hM hB s1 4 σ rfl hQ) ?_
    exact hB_112 _ _ _ e hp
  have hB_82 : ∀ (l1 : Int32) (l2 : Int32) (σ : xM_S) (o : xM_S), B_X5_statement_82 l1 l2 σ = some o → P0 o → xm_W g Γ 82 [some (.ref m), some (.int l1), some (.int l2)] [] (xMp h0 m ad σ) 0 0 := by
    intro l1 l2 σ o e hp
    unfold B_X5_statement_82 at e
    refine xw_ald (show xm_Imp g Γ 82 (xi_ald 0 83) from xs_aload_n hΓ dX5_statement_82) rfl ?_
    refine xw_mv0 (show xm_Imp g Γ 83 (xi_vir g 4 M_X5_fine 1 0 86) from xs_invV hG hΓ k_X5_fine rfl (ci := 4) rfl q3203 q3205 qs79 dX5_statement_83) rfl (fun Q X hQ => K_X5_fine hG hM hB σ rfl hQ) ?_
    refine xw_if (show xm_Imp g Γ 86 (xi_if (fun x => x = 0) 112 89) from xs_if_eq hΓ dX5_statement_86 (by decide)) (fun c => ?_) (fun c => ?_)
    · rw [if_pos c] at e
      exact xm_lx (hB_112 _ _ _ e hp) (And.intro rfl (And.intro rfl (trivial)))
    · rw [if_neg c] at e
      refine xw_ild (show xm_Imp g Γ 89 (xi_ild 2 90) from xs_iload_n hΓ dX5_statement_89) rfl ?_
      refine xw_if (show xm_Imp g Γ 90 (xi_if (fun x => x = 0) 112 93) from xs_if_eq hΓ dX5_statement_90 (by decide)) (fun c => ?_) (fun c => ?_)
      · rw [if_pos c] at e
        exact xm_lx (hB_112 _ _ _ e hp) (And.intro rfl (And.intro rfl (trivial)))
      · rw [if_neg c] at e
        refine xw_ald (show xm_Imp g Γ 93 (xi_ald 0 94) from xs_aload_n hΓ dX5_statement_93) rfl ?_
        refine xw_ald (show xm_Imp g Γ 94 (xi_ald 0 95) from xs_aload_n hΓ dX5_statement_94) rfl ?_
        refine xw_mgi (v := (σ.1 34)) (show xm_Imp g Γ 95 (xi_get 4 34 98) from xs_get hG hΓ (ci := 4) (kf := 34) rfl (Nat.le_of_ble_eq_true rfl) q2884 dX5_statement_95) (fun _ => rfl) rfl ?_
        refine xw_psh (v := (.int (60))) (show xm_Imp g Γ 98 (xi_psh (.int (60)) 100) from xs_bipush hΓ dX5_statement_98 (by decide)) ?_
        refine xw_ic (show xm_Imp g Γ 100 (xi_ic (fun x y => y ≤ x) 107 103) from xs_icmp_ge hΓ dX5_statement_100 (by decide)) (fun c => ?_) (fun c => ?_)
        · rw [if_pos c] at e
          refine xw_psh (v := (.int (0))) (show xm_Imp g Γ 107 (xi_psh (.int (0)) 108) from xs_iconst hΓ dX5_statement_107 (by decide)) ?_
          exact xm_lx (hB_108 _ _ _ _ e hp) (And.intro rfl (And.intro rfl (trivial)))
        · rw [if_neg c] at e
          refine xw_psh (v := (.int (1))) (show xm_Imp g Γ 103 (xi_psh (.int (1)) 104) from xs_iconst hΓ dX5_statement_103 (by decide)) ?_
          refine xw_goto (show xm_Imp g Γ 104 (xi_goto 108) from xs_goto hΓ dX5_statement_104 (by decide)) ?_
          exact xm_lx (hB_108 _ _ _ _ e hp) (And.intro rfl (And.intro rfl (trivial)))
  have hB_78 : ∀ (l1 : Int32) (l2 : Int32) (s1 : Int32) (σ : xM_S) (o : xM_S), B_X5_statement_78 l1 l2 s1 σ = some o → P0 o → xm_W g Γ 78 [some (.ref m), some (.int l1), some (.int l2)] [.int s1, .ref m] (xMp h0 m ad σ) 0 0 := by
    intro l1 l2 s1 σ o e hp
    unfold B_X5_statement_78 at e
    refine xw_psh (v := (.int (3))) (show xm_Imp g Γ 78 (xi_psh (.int (3)) 79) from xs_iconst hΓ dX5_statement_78 (by decide)) ?_
    refine xw_mu2 (show xm_Imp g Γ 79 (xi_vir g 4 M_X5_needs 1 2 82) from xs_invV hG hΓ k_X5_needs rfl (ci := 4) rfl q3207 q3209 qs80 dX5_statement_79) rfl (fun Q X hQ => K_X5_needs hG hM hB s1 3 σ rfl hQ) ?_
    exact hB_82 _ _ _ _ e hp
  have hB_50 : ∀ (l1 : Int32) (l2 : Int32) (s1 : Int32) (σ : xM_S) (o : xM_S), B_X5_statement_50 l1 l2 s1 σ = some o → P0 o → xm_W g Γ 50 [some (.ref m), some (.int l1), some (.int l2)] [.int s1, .ref m] (xMp h0 m ad σ) 0 0 := by
    intro l1 l2 s1 σ o e hp
    unfold B_X5_statement_50 at e
    refine xw_psh (v := (.int (1))) (show xm_Imp g Γ 50 (xi_psh (.int (1)) 51) from xs_iconst hΓ dX5_statement_50 (by decide)) ?_
    refine xw_mu2 (show xm_Imp g Γ 51 (xi_vir g 4 M_X5_needs 1 2 54) from xs_invV hG hΓ k_X5_needs rfl (ci := 4) rfl q3207 q3209 qs80 dX5_statement_51) rfl (fun Q X hQ => K_X5_needs hG hM hB s1 1 σ rfl hQ) ?_
    refine xw_ald (show xm_Imp g Γ 54 (xi_ald 0 55) from xs_aload_n hΓ dX5_statement_54) rfl ?_
    refine xw_mv0 (show xm_Imp g Γ 55 (xi_vir g 4 M_X5_fine 1 0 58) from xs_invV hG hΓ k_X5_fine rfl (ci := 4) rfl q3203 q3205 qs79 dX5_statement_55) rfl (fun Q X hQ => K_X5_fine hG hM hB (F_X5_needs s1 1 σ) rfl hQ) ?_
    refine xw_if (show xm_Imp g Γ 58 (xi_if (fun x => x = 0) 82 61) from xs_if_eq hΓ dX5_statement_58 (by decide)) (fun c => ?_) (fun c => ?_)
    · rw [if_pos c] at e
      exact hB_82 _ _ _ _ e hp
    · rw [if_neg c] at e
      refine xw_ild (show xm_Imp g Γ 61 (xi_ild 1 62) from xs_iload_n hΓ dX5_statement_61) rfl ?_
      refine xw_if (show xm_Imp g Γ 62 (xi_if (fun x => x = 0) 82 65) from xs_if_eq hΓ dX5_statement_62 (by decide)) (fun c => ?_) (fun c => ?_)
      · rw [if_pos c] at e
        exact hB_82 _ _ _ _ e hp
      · rw [if_neg c] at e
        refine xw_ald (show xm_Imp g Γ 65 (xi_ald 0 66) from xs_aload_n hΓ dX5_statement_65) rfl ?_
        refine xw_ald (show xm_Imp g Γ 66 (xi_ald 0 67) from xs_aload_n hΓ dX5_statement_66) rfl ?_
        refine xw_mgi (v := ((F_X5_needs s1 1 σ).1 31)) (show xm_Imp g Γ 67 (xi_get 4 31 70) from xs_get hG hΓ (ci := 4) (kf := 31) rfl (Nat.le_of_ble_eq_true rfl) q2881 dX5_statement_67) (fun _ => rfl) rfl ?_
        refine xw_if (show xm_Imp g Γ 70 (xi_if (fun x => x = 0) 73 77) from xs_if_ne hΓ dX5_statement_70 (by decide)) (fun c => ?_) (fun c => ?_)
        · rw [if_pos c] at e
          refine xw_psh (v := (.int (1))) (show xm_Imp g Γ 73 (xi_psh (.int (1)) 74) from xs_iconst hΓ dX5_statement_73 (by decide)) ?_
          refine xw_goto (show xm_Imp g Γ 74 (xi_goto 78) from xs_goto hΓ dX5_statement_74 (by decide)) ?_
          exact hB_78 _ _ _ _ _ e hp
        · rw [if_neg c] at e
          refine xw_psh (v := (.int (0))) (show xm_Imp g Γ 77 (xi_psh (.int (0)) 78) from xs_iconst hΓ dX5_statement_77 (by decide)) ?_
          exact hB_78 _ _ _ _ _ e hp
  have hB_35 : ∀ (l1 : Int32) (s0 : Int32) (σ : xM_S) (o : xM_S), B_X5_statement_35 l1 s0 σ = some o → P0 o → xm_W g Γ 35 [some (.ref m), some (.int l1), none] [.int s0] (xMp h0 m ad σ) 0 0 := by
    intro l1 s0 σ o e hp
    unfold B_X5_statement_35 at e
    refine xw_ist (ls' := [some (.ref m), some (.int l1), some (.int s0)]) (show xm_Imp g Γ 35 (xi_ist 2 36) from xs_istore_n hΓ dX5_statement_35 (Nat.le_of_ble_eq_true rfl)) rfl ?_
    refine xw_ald (show xm_Imp g Γ 36 (xi_ald 0 37) from xs_aload_n hΓ dX5_statement_36) rfl ?_
    refine xw_ild (show xm_Imp g Γ 37 (xi_ild 1 38) from xs_iload_n hΓ dX5_statement_37) rfl ?_
    refine xw_if (show xm_Imp g Γ 38 (xi_if (fun x => x = 0) 41 45) from xs_if_ne hΓ dX5_statement_38 (by decide)) (fun c => ?_) (fun c => ?_)
    · rw [if_pos c] at e
      refine xw_ild (show xm_Imp g Γ 41 (xi_ild 2 42) from xs_iload_n hΓ dX5_statement_41) rfl ?_
      refine xw_if (show xm_Imp g Γ 42 (xi_if (fun x => x = 0) 49 45) from xs_if_eq hΓ dX5_statement_42 (by decide)) (fun c => ?_) (fun c => ?_)
      · rw [if_pos c] at e
        refine xw_psh (v := (.int (0))) (show xm_Imp g Γ 49 (xi_psh (.int (0)) 50) from xs_iconst hΓ dX5_statement_49 (by decide)) ?_
        exact hB_50 _ _ _ _ _ e hp
      · rw [if_neg c] at e
        refine xw_psh (v := (.int (1))) (show xm_Imp g Γ 45 (xi_psh (.int (1)) 46) from xs_iconst hΓ dX5_statement_45 (by decide)) ?_
        refine xw_goto (show xm_Imp g Γ 46 (xi_goto 50) from xs_goto hΓ dX5_statement_46 (by decide)) ?_
        exact hB_50 _ _ _ _ _ e hp
    · rw [if_neg c] at e
      refine xw_psh (v := (.int (1))) (show xm_Imp g Γ 45 (xi_psh (.int (1)) 46) from xs_iconst hΓ dX5_statement_45 (by decide)) ?_
      refine xw_goto (show xm_Imp g Γ 46 (xi_goto 50) from xs_goto hΓ dX5_statement_46 (by decide)) ?_
      exact hB_50 _ _ _ _ _ e hp
  unfold F_X5_statement at e
  refine xw_ald (show xm_Imp g Γ 0 (xi_ald 0 1) from xs_aload_n hΓ dX5_statement_0) rfl ?_
  refine xw_psh (v := (.int (11))) (show xm_Imp g Γ 1 (xi_psh (.int (11)) 3) from xs_bipush hΓ dX5_statement_1 (by decide)) ?_
  refine xw_mv1 (show xm_Imp g Γ 3 (xi_vir g 4 M_X5_isWord 2 1 6) from xs_invV hG hΓ k_X5_isWord rfl (ci := 4) rfl q3199 q3201 qs78 dX5_statement_3) rfl (fun Q X hQ => K_X5_isWord hG hM hB 11 σ rfl hQ) ?_
  refine xw_ist (ls' := [some (.ref m), some (.int (F_X5_isWord 11 σ)), none]) (show xm_Imp g Γ 6 (xi_ist 1 7) from xs_istore_n hΓ dX5_statement_6 (Nat.le_of_ble_eq_true rfl)) rfl ?_
  refine xw_ald (show xm_Imp g Γ 7 (xi_ald 0 8) from xs_aload_n hΓ dX5_statement_7) rfl ?_
  refine xw_mgi (v := (σ.1 24)) (show xm_Imp g Γ 8 (xi_get 4 24 11) from xs_get hG hΓ (ci := 4) (kf := 24) rfl (Nat.le_of_ble_eq_true rfl) q2874 dX5_statement_8) (fun _ => rfl) rfl ?_
  refine xw_psh (v := (.int (1))) (show xm_Imp g Γ 11 (xi_psh (.int (1)) 12) from xs_iconst hΓ dX5_statement_11 (by decide)) ?_
  refine xw_ic (show xm_Imp g Γ 12 (xi_ic (fun x y => x = y) 15 34) from xs_icmp_ne hΓ dX5_statement_12 (by decide)) (fun c => ?_) (fun c => ?_)
  · rw [if_pos c] at e
    refine xw_ald (show xm_Imp g Γ 15 (xi_ald 0 16) from xs_aload_n hΓ dX5_statement_15) rfl ?_
    refine xw_mgi (v := (σ.1 25)) (show xm_Imp g Γ 16 (xi_get 4 25 19) from xs_get hG hΓ (ci := 4) (kf := 25) rfl (Nat.le_of_ble_eq_true rfl) q2875 dX5_statement_16) (fun _ => rfl) rfl ?_
    refine xw_i2l (show xm_Imp g Γ 19 (xi_i2l 20) from xs_i2l hΓ dX5_statement_19) ?_
    refine xw_psh (v := (.long 0)) (show xm_Imp g Γ 20 (xi_psh (.long 0) 21) from xs_lconst hΓ dX5_statement_20 (by decide)) ?_
    refine xw_psh (v := (.long (10))) (show xm_Imp g Γ 21 (xi_psh (.long (10)) 24) from xs_ldc2 hG hΓ q3231 dX5_statement_21) ?_
    refine xw_sv3 (show xm_Imp g Γ 24 (xi_inv g M_X5_isIn 1 3 27) from xs_invS hG hΓ k_X5_isIn rfl q2996 q2997 dX5_statement_24) rfl (fun Q X hQ => K_X5_isIn hG ((σ.1 25).toInt64) 0 10 rfl hQ) ?_
    refine xw_if (show xm_Imp g Γ 27 (xi_if (fun x => x = 0) 34 30) from xs_if_eq hΓ dX5_statement_27 (by decide)) (fun c => ?_) (fun c => ?_)
    · rw [if_pos c] at e
      refine xw_psh (v := (.int (0))) (show xm_Imp g Γ 34 (xi_psh (.int (0)) 35) from xs_iconst hΓ dX5_statement_34 (by decide)) ?_
      exact hB_35 _ _ _ _ e hp
    · rw [if_neg c] at e
      refine xw_psh (v := (.int (1))) (show xm_Imp g Γ 30 (xi_psh (.int (1)) 31) from xs_iconst hΓ dX5_statement_30 (by decide)) ?_
      refine xw_goto (show xm_Imp g Γ 31 (xi_goto 35) from xs_goto hΓ dX5_statement_31 (by decide)) ?_
      exact hB_35 _ _ _ _ e hp
  · rw [if_neg c] at e
    refine xw_psh (v := (.int (0))) (show xm_Imp g Γ 34 (xi_psh (.int (0)) 35) from xs_iconst hΓ dX5_statement_34 (by decide)) ?_
    exact hB_35 _ _ _ _ e hp
noncomputable def B_X5_takesProgram_178 (l1 : Int32) (l2 : Int32) (σ : xM_S) : Option ((Int32 × Int32 × xM_S) ⊕ (xM_S)) :=
 some (Sum.inl (l1, l2 + 1, σ))
noncomputable def D_X5_takesProgram_12  (s : Int32 × Int32 × xM_S) : Option ((Int32 × Int32 × xM_S) ⊕ (xM_S)) :=
 (if (s.2.2.1 34) ≤ s.2.1 then
 xl_o (some s.2.2) else
 xo_b (xa_ix 480 (8 * s.2.1)) (fun j1 =>
 xo_b (xa_ix 60 s.2.1) (fun j2 =>
 xo_b (xa_ix 480 ((8 * s.2.1) + 1)) (fun j3 =>
 xo_b (xa_ix 60 s.2.1) (fun j4 =>
 xo_b (xa_ix 480 ((8 * s.2.1) + 2)) (fun j5 =>
 xo_b (xa_ix 60 s.2.1) (fun j6 =>
 xo_b (xa_ix 480 ((8 * s.2.1) + 3)) (fun j7 =>
 xo_b (xa_ix 60 s.2.1) (fun j8 =>
 xo_b (xa_ix 480 ((8 * s.2.1) + 4)) (fun j9 =>
 xo_b (xa_ix 60 s.2.1) (fun j10 =>
 xo_b (xa_ix 480 ((8 * s.2.1) + 5)) (fun j11 =>
 xo_b (xa_ix 60 s.2.1) (fun j12 =>
 xo_b (xa_ix 480 ((8 * s.2.1) + 6)) (fun j13 =>
 xo_b (xa_ix 60 s.2.1) (fun j14 =>
 xo_b (xa_ix 480 ((8 * s.2.1) + 7)) (fun j15 =>
 xo_b (xa_ix 60 s.2.1) (fun j16 =>
 xo_b (xa_ix 60 s.2.1) (fun j17 =>
 xo_b (xa_ix 60 s.2.1) (fun j18 =>
 B_X5_takesProgram_178 (if ((xM_a s.2.2 9 j2 (s.2.2.2 33 j1)).2 9 j18) = 9 then s.1 + 1 else s.1) s.2.1 (xM_a (xM_a (xM_a (xM_a (xM_a (xM_a (xM_a (xM_a (xM_a s.2.2 9 j2 (s.2.2.2 33 j1)) 10 j4 (s.2.2.2 33 j3)) 11 j6 (s.2.2.2 33 j5)) 12 j8 (s.2.2.2 33 j7)) 13 j10 (s.2.2.2 33 j9)) 14 j12 (s.2.2.2 33 j11)) 15 j14 (s.2.2.2 33 j13)) 16 j16 (s.2.2.2 33 j15)) 17 j17 s.1))))))))))))))))))))
noncomputable def L_X5_takesProgram_12  (s : Int32 × Int32 × xM_S) : Option (xM_S) := xl_loop (D_X5_takesProgram_12 ) s
noncomputable def F_X5_takesProgram (σ : xM_S) : Option (xM_S) :=
 L_X5_takesProgram_12 (0, 0, (xM_f σ 18 (σ.1 34)))
set_option maxHeartbeats 4000000 in
theorem K_X5_takesProgram {g : xm_G} (hG : xm_Gw g) {h0 : xm_H} {m : Nat} {ad : Nat → Nat} (hM : xM_ok h0 m ad) (hB : xk_B g h0)  (σ : xM_S) {o : xM_S} (e : F_X5_takesProgram σ = some o) {Q : xm_P} {X : xm_X} (hQ : Q none (xMp h0 m ad o)) : xm_Run g M_X5_takesProgram 1 [.ref m] (xMp h0 m ad σ) 0 0 Q X := by
  refine xm_Run.of pn_StringTableauModel (Nat.le_of_ble_eq_true rfl) (fun Γ hΓ => ?_)
  obtain ⟨P0, hP0, hp⟩ : ∃ P : xM_S → Prop, (∀ o, P o → Q none (xMp h0 m ad o)) ∧ P o := ⟨fun o => Q none (xMp h0 m ad o), fun _ h => h, hQ⟩
  clear hQ
  show xm_W g Γ 0 [some (.ref m), none, none] [] (xMp h0 m ad σ) 0 0
  have hL_12 : ∀  (s : Int32 × Int32 × xM_S) (o : xM_S), L_X5_takesProgram_12  s = some o → P0 o → xm_W g Γ 12 [some (.ref m), some (.int s.1), some (.int s.2.1)] [] (xMp h0 m ad s.2.2) 0 0 := by
    skip
    refine xl_rule (WS := fun s : Int32 × Int32 × xM_S => xm_W g Γ 12 [some (.ref m), some (.int s.1), some (.int s.2.1)] [] (xMp h0 m ad s.2.2) 0 0) ?_
    intro s o e hp
    obtain ⟨P1, hP1, hp⟩ : ∃ P : (Int32 × Int32 × xM_S) ⊕ (xM_S) → Prop, (∀ o, P o → xl_P (fun s : Int32 × Int32 × xM_S => xm_W g Γ 12 [some (.ref m), some (.int s.1), some (.int s.2.1)] [] (xMp h0 m ad s.2.2) 0 0) P0 o) ∧ P o := ⟨_, fun _ h => h, hp⟩
    have hB_178 : ∀ (l1 : Int32) (l2 : Int32) (σ : xM_S) (o : (Int32 × Int32 × xM_S) ⊕ (xM_S)), B_X5_takesProgram_178 l1 l2 σ = some o → P1 o → xm_W g Γ 178 [some (.ref m), some (.int l1), some (.int l2)] [] (xMp h0 m ad σ) 0 0 := by
      intro l1 l2 σ o e hp
      unfold B_X5_takesProgram_178 at e
      refine xw_inc (v := (1)) (ls' := [some (.ref m), some (.int l1), some (.int (l2 + 1))]) (show xm_Imp g Γ 178 (xi_inc 2 (1) 181) from xs_iinc hΓ dX5_takesProgram_178 (by decide) (Nat.le_of_ble_eq_true rfl)) rfl rfl ?_
      refine xw_goto (show xm_Imp g Γ 181 (xi_goto 12) from xs_goto hΓ dX5_takesProgram_181 (by decide)) ?_
      have hq := xl_P_inl (hP1 _ (xl_fin e hp)); exact hq
    unfold D_X5_takesProgram_12 at e
    refine xw_ild (show xm_Imp g Γ 12 (xi_ild 2 13) from xs_iload_n hΓ dX5_takesProgram_12) rfl ?_
    refine xw_ald (show xm_Imp g Γ 13 (xi_ald 0 14) from xs_aload_n hΓ dX5_takesProgram_13) rfl ?_
    refine xw_mgi (v := (s.2.2.1 34)) (show xm_Imp g Γ 14 (xi_get 4 34 17) from xs_get hG hΓ (ci := 4) (kf := 34) rfl (Nat.le_of_ble_eq_true rfl) q2884 dX5_takesProgram_14) (fun _ => rfl) rfl ?_
    refine xw_ic (show xm_Imp g Γ 17 (xi_ic (fun x y => y ≤ x) 184 20) from xs_icmp_ge hΓ dX5_takesProgram_17 (by decide)) (fun c => ?_) (fun c => ?_)
    · rw [if_pos c] at e
      obtain ⟨_, e, hp⟩ := xl_o_s e (hP1 _ hp)
      exact xw_vret (show xm_Imp g Γ 184 (xi_vret _) from xs_return hΓ rfl dX5_takesProgram_184) (hP0 _ (xl_fin e hp))
    · rw [if_neg c] at e
      refine xw_ald (show xm_Imp g Γ 20 (xi_ald 0 21) from xs_aload_n hΓ dX5_takesProgram_20) rfl ?_
      refine xw_mga (k := 9) (show xm_Imp g Γ 21 (xi_get 4 9 24) from xs_get hG hΓ (ci := 4) (kf := 9) rfl (Nat.le_of_ble_eq_true rfl) q2859 dX5_takesProgram_21) (fun _ => rfl) ?_
      refine xw_ild (show xm_Imp g Γ 24 (xi_ild 2 25) from xs_iload_n hΓ dX5_takesProgram_24) rfl ?_
      refine xw_ald (show xm_Imp g Γ 25 (xi_ald 0 26) from xs_aload_n hΓ dX5_takesProgram_25) rfl ?_
      refine xw_mga (k := 33) (show xm_Imp g Γ 26 (xi_get 4 33 29) from xs_get hG hΓ (ci := 4) (kf := 33) rfl (Nat.le_of_ble_eq_true rfl) q2883 dX5_takesProgram_26) (fun _ => rfl) ?_
      refine xw_psh (v := (.int (8))) (show xm_Imp g Γ 29 (xi_psh (.int (8)) 31) from xs_bipush hΓ dX5_takesProgram_29 (by decide)) ?_
      refine xw_ild (show xm_Imp g Γ 31 (xi_ild 2 32) from xs_iload_n hΓ dX5_takesProgram_31) rfl ?_
      refine xw_ii (show xm_Imp g Γ 32 (xi_ii (fun x y => x * y) 33) from xs_imul hΓ dX5_takesProgram_32) ?_
      obtain ⟨j1, e1, e⟩ := xo_b_s e
      refine xw_mial (k := 33) (v := (s.2.2.2 33 j1)) (show xm_Imp g Γ 33 (xi_ial 34) from xs_ial hG hΓ dX5_takesProgram_33) hM (by decide) rfl e1 rfl ?_
      obtain ⟨j2, e1, e⟩ := xo_b_s e
      refine xw_mias (k := 9) (show xm_Imp g Γ 34 (xi_ias 35) from xs_ias hG hΓ dX5_takesProgram_34) hM (by decide) rfl e1 ?_
      refine xw_ald (show xm_Imp g Γ 35 (xi_ald 0 36) from xs_aload_n hΓ dX5_takesProgram_35) rfl ?_
      refine xw_mga (k := 10) (show xm_Imp g Γ 36 (xi_get 4 10 39) from xs_get hG hΓ (ci := 4) (kf := 10) rfl (Nat.le_of_ble_eq_true rfl) q2860 dX5_takesProgram_36) (fun _ => rfl) ?_
      refine xw_ild (show xm_Imp g Γ 39 (xi_ild 2 40) from xs_iload_n hΓ dX5_takesProgram_39) rfl ?_
      refine xw_ald (show xm_Imp g Γ 40 (xi_ald 0 41) from xs_aload_n hΓ dX5_takesProgram_40) rfl ?_
      refine xw_mga (k := 33) (show xm_Imp g Γ 41 (xi_get 4 33 44) from xs_get hG hΓ (ci := 4) (kf := 33) rfl (Nat.le_of_ble_eq_true rfl) q2883 dX5_takesProgram_41) (fun _ => rfl) ?_
      refine xw_psh (v := (.int (8))) (show xm_Imp g Γ 44 (xi_psh (.int (8)) 46) from xs_bipush hΓ dX5_takesProgram_44 (by decide)) ?_
      refine xw_ild (show xm_Imp g Γ 46 (xi_ild 2 47) from xs_iload_n hΓ dX5_takesProgram_46) rfl ?_
      refine xw_ii (show xm_Imp g Γ 47 (xi_ii (fun x y => x * y) 48) from xs_imul hΓ dX5_takesProgram_47) ?_
      refine xw_psh (v := (.int (1))) (show xm_Imp g Γ 48 (xi_psh (.int (1)) 49) from xs_iconst hΓ dX5_takesProgram_48 (by decide)) ?_
      refine xw_ii (show xm_Imp g Γ 49 (xi_ii (fun x y => x + y) 50) from xs_iadd hΓ dX5_takesProgram_49) ?_
      obtain ⟨j3, e1, e⟩ := xo_b_s e
      refine xw_mial (k := 33) (v := (s.2.2.2 33 j3)) (show xm_Imp g Γ 50 (xi_ial 51) from xs_ial hG hΓ dX5_takesProgram_50) hM (by decide) rfl e1 rfl ?_
      obtain ⟨j4, e1, e⟩ := xo_b_s e
      refine xw_mias (k := 10) (show xm_Imp g Γ 51 (xi_ias 52) from xs_ias hG hΓ dX5_takesProgram_51) hM (by decide) rfl e1 ?_
      refine xw_ald (show xm_Imp g Γ 52 (xi_ald 0 53) from xs_aload_n hΓ dX5_takesProgram_52) rfl ?_
      refine xw_mga (k := 11) (show xm_Imp g Γ 53 (xi_get 4 11 56) from xs_get hG hΓ (ci := 4) (kf := 11) rfl (Nat.le_of_ble_eq_true rfl) q2861 dX5_takesProgram_53) (fun _ => rfl) ?_
      refine xw_ild (show xm_Imp g Γ 56 (xi_ild 2 57) from xs_iload_n hΓ dX5_takesProgram_56) rfl ?_
      refine xw_ald (show xm_Imp g Γ 57 (xi_ald 0 58) from xs_aload_n hΓ dX5_takesProgram_57) rfl ?_
      refine xw_mga (k := 33) (show xm_Imp g Γ 58 (xi_get 4 33 61) from xs_get hG hΓ (ci := 4) (kf := 33) rfl (Nat.le_of_ble_eq_true rfl) q2883 dX5_takesProgram_58) (fun _ => rfl) ?_
      refine xw_psh (v := (.int (8))) (show xm_Imp g Γ 61 (xi_psh (.int (8)) 63) from xs_bipush hΓ dX5_takesProgram_61 (by decide)) ?_
      refine xw_ild (show xm_Imp g Γ 63 (xi_ild 2 64) from xs_iload_n hΓ dX5_takesProgram_63) rfl ?_
      refine xw_ii (show xm_Imp g Γ 64 (xi_ii (fun x y => x * y) 65) from xs_imul hΓ dX5_takesProgram_64) ?_
      refine xw_psh (v := (.int (2))) (show xm_Imp g Γ 65 (xi_psh (.int (2)) 66) from xs_iconst hΓ dX5_takesProgram_65 (by decide)) ?_
      refine xw_ii (show xm_Imp g Γ 66 (xi_ii (fun x y => x + y) 67) from xs_iadd hΓ dX5_takesProgram_66) ?_
      obtain ⟨j5, e1, e⟩ := xo_b_s e
      refine xw_mial (k := 33) (v := (s.2.2.2 33 j5)) (show xm_Imp g Γ 67 (xi_ial 68) from xs_ial hG hΓ dX5_takesProgram_67) hM (by decide) rfl e1 rfl ?_
      obtain ⟨j6, e1, e⟩ := xo_b_s e
      refine xw_mias (k := 11) (show xm_Imp g Γ 68 (xi_ias 69) from xs_ias hG hΓ dX5_takesProgram_68) hM (by decide) rfl e1 ?_
      refine xw_ald (show xm_Imp g Γ 69 (xi_ald 0 70) from xs_aload_n hΓ dX5_takesProgram_69) rfl ?_
      refine xw_mga (k := 12) (show xm_Imp g Γ 70 (xi_get 4 12 73) from xs_get hG hΓ (ci := 4) (kf := 12) rfl (Nat.le_of_ble_eq_true rfl) q2862 dX5_takesProgram_70) (fun _ => rfl) ?_
      refine xw_ild (show xm_Imp g Γ 73 (xi_ild 2 74) from xs_iload_n hΓ dX5_takesProgram_73) rfl ?_
      refine xw_ald (show xm_Imp g Γ 74 (xi_ald 0 75) from xs_aload_n hΓ dX5_takesProgram_74) rfl ?_
      refine xw_mga (k := 33) (show xm_Imp g Γ 75 (xi_get 4 33 78) from xs_get hG hΓ (ci := 4) (kf := 33) rfl (Nat.le_of_ble_eq_true rfl) q2883 dX5_takesProgram_75) (fun _ => rfl) ?_
      refine xw_psh (v := (.int (8))) (show xm_Imp g Γ 78 (xi_psh (.int (8)) 80) from xs_bipush hΓ dX5_takesProgram_78 (by decide)) ?_
      refine xw_ild (show xm_Imp g Γ 80 (xi_ild 2 81) from xs_iload_n hΓ dX5_takesProgram_80) rfl ?_
      refine xw_ii (show xm_Imp g Γ 81 (xi_ii (fun x y => x * y) 82) from xs_imul hΓ dX5_takesProgram_81) ?_
      refine xw_psh (v := (.int (3))) (show xm_Imp g Γ 82 (xi_psh (.int (3)) 83) from xs_iconst hΓ dX5_takesProgram_82 (by decide)) ?_
      refine xw_ii (show xm_Imp g Γ 83 (xi_ii (fun x y => x + y) 84) from xs_iadd hΓ dX5_takesProgram_83) ?_
      obtain ⟨j7, e1, e⟩ := xo_b_s e
      refine xw_mial (k := 33) (v := (s.2.2.2 33 j7)) (show xm_Imp g Γ 84 (xi_ial 85) from xs_ial hG hΓ dX5_takesProgram_84) hM (by decide) rfl e1 rfl ?_
      obtain ⟨j8, e1, e⟩ := xo_b_s e
      refine xw_mias (k := 12) (show xm_Imp g Γ 85 (xi_ias 86) from xs_ias hG hΓ dX5_takesProgram_85) hM (by decide) rfl e1 ?_
      refine xw_ald (show xm_Imp g Γ 86 (xi_ald 0 87) from xs_aload_n hΓ dX5_takesProgram_86) rfl ?_
      refine xw_mga (k := 13) (show xm_Imp g Γ 87 (xi_get 4 13 90) from xs_get hG hΓ (ci := 4) (kf := 13) rfl (Nat.le_of_ble_eq_true rfl) q2863 dX5_takesProgram_87) (fun _ => rfl) ?_
      refine xw_ild (show xm_Imp g Γ 90 (xi_ild 2 91) from xs_iload_n hΓ dX5_takesProgram_90) rfl ?_
      refine xw_ald (show xm_Imp g Γ 91 (xi_ald 0 92) from xs_aload_n hΓ dX5_takesProgram_91) rfl ?_
      refine xw_mga (k := 33) (show xm_Imp g Γ 92 (xi_get 4 33 95) from xs_get hG hΓ (ci := 4) (kf := 33) rfl (Nat.le_of_ble_eq_true rfl) q2883 dX5_takesProgram_92) (fun _ => rfl) ?_
      refine xw_psh (v := (.int (8))) (show xm_Imp g Γ 95 (xi_psh (.int (8)) 97) from xs_bipush hΓ dX5_takesProgram_95 (by decide)) ?_
      refine xw_ild (show xm_Imp g Γ 97 (xi_ild 2 98) from xs_iload_n hΓ dX5_takesProgram_97) rfl ?_
      refine xw_ii (show xm_Imp g Γ 98 (xi_ii (fun x y => x * y) 99) from xs_imul hΓ dX5_takesProgram_98) ?_
      refine xw_psh (v := (.int (4))) (show xm_Imp g Γ 99 (xi_psh (.int (4)) 100) from xs_iconst hΓ dX5_takesProgram_99 (by decide)) ?_
      refine xw_ii (show xm_Imp g Γ 100 (xi_ii (fun x y => x + y) 101) from xs_iadd hΓ dX5_takesProgram_100) ?_
      obtain ⟨j9, e1, e⟩ := xo_b_s e
      refine xw_mial (k := 33) (v := (s.2.2.2 33 j9)) (show xm_Imp g Γ 101 (xi_ial 102) from xs_ial hG hΓ dX5_takesProgram_101) hM (by decide) rfl e1 rfl ?_
      obtain ⟨j10, e1, e⟩ := xo_b_s e
      refine xw_mias (k := 13) (show xm_Imp g Γ 102 (xi_ias 103) from xs_ias hG hΓ dX5_takesProgram_102) hM (by decide) rfl e1 ?_
      refine xw_ald (show xm_Imp g Γ 103 (xi_ald 0 104) from xs_aload_n hΓ dX5_takesProgram_103) rfl ?_
      refine xw_mga (k := 14) (show xm_Imp g Γ 104 (xi_get 4 14 107) from xs_get hG hΓ (ci := 4) (kf := 14) rfl (Nat.le_of_ble_eq_true rfl) q2864 dX5_takesProgram_104) (fun _ => rfl) ?_
      refine xw_ild (show xm_Imp g Γ 107 (xi_ild 2 108) from xs_iload_n hΓ dX5_takesProgram_107) rfl ?_
      refine xw_ald (show xm_Imp g Γ 108 (xi_ald 0 109) from xs_aload_n hΓ dX5_takesProgram_108) rfl ?_
      refine xw_mga (k := 33) (show xm_Imp g Γ 109 (xi_get 4 33 112) from xs_get hG hΓ (ci := 4) (kf := 33) rfl (Nat.le_of_ble_eq_true rfl) q2883 dX5_takesProgram_109) (fun _ => rfl) ?_
      refine xw_psh (v := (.int (8))) (show xm_Imp g Γ 112 (xi_psh (.int (8)) 114) from xs_bipush hΓ dX5_takesProgram_112 (by decide)) ?_
      refine xw_ild (show xm_Imp g Γ 114 (xi_ild 2 115) from xs_iload_n hΓ dX5_takesProgram_114) rfl ?_
      refine xw_ii (show xm_Imp g Γ 115 (xi_ii (fun x y => x * y) 116) from xs_imul hΓ dX5_takesProgram_115) ?_
      refine xw_psh (v := (.int (5))) (show xm_Imp g Γ 116 (xi_psh (.int (5)) 117) from xs_iconst hΓ dX5_takesProgram_116 (by decide)) ?_
      refine xw_ii (show xm_Imp g Γ 117 (xi_ii (fun x y => x + y) 118) from xs_iadd hΓ dX5_takesProgram_117) ?_
      obtain ⟨j11, e1, e⟩ := xo_b_s e
      refine xw_mial (k := 33) (v := (s.2.2.2 33 j11)) (show xm_Imp g Γ 118 (xi_ial 119) from xs_ial hG hΓ dX5_takesProgram_118) hM (by decide) rfl e1 rfl ?_
      obtain ⟨j12, e1, e⟩ := xo_b_s e
      refine xw_mias (k := 14) (show xm_Imp g Γ 119 (xi_ias 120) from xs_ias hG hΓ dX5_takesProgram_119) hM (by decide) rfl e1 ?_
      refine xw_ald (show xm_Imp g Γ 120 (xi_ald 0 121) from xs_aload_n hΓ dX5_takesProgram_120) rfl ?_
      refine xw_mga (k := 15) (show xm_Imp g Γ 121 (xi_get 4 15 124) from xs_get hG hΓ (ci := 4) (kf := 15) rfl (Nat.le_of_ble_eq_true rfl) q2865 dX5_takesProgram_121) (fun _ => rfl) ?_
      refine xw_ild (show xm_Imp g Γ 124 (xi_ild 2 125) from xs_iload_n hΓ dX5_takesProgram_124) rfl ?_
      refine xw_ald (show xm_Imp g Γ 125 (xi_ald 0 126) from xs_aload_n hΓ dX5_takesProgram_125) rfl ?_
      refine xw_mga (k := 33) (show xm_Imp g Γ 126 (xi_get 4 33 129) from xs_get hG hΓ (ci := 4) (kf := 33) rfl (Nat.le_of_ble_eq_true rfl) q2883 dX5_takesProgram_126) (fun _ => rfl) ?_
      refine xw_psh (v := (.int (8))) (show xm_Imp g Γ 129 (xi_psh (.int (8)) 131) from xs_bipush hΓ dX5_takesProgram_129 (by decide)) ?_
      refine xw_ild (show xm_Imp g Γ 131 (xi_ild 2 132) from xs_iload_n hΓ dX5_takesProgram_131) rfl ?_
      refine xw_ii (show xm_Imp g Γ 132 (xi_ii (fun x y => x * y) 133) from xs_imul hΓ dX5_takesProgram_132) ?_
      refine xw_psh (v := (.int (6))) (show xm_Imp g Γ 133 (xi_psh (.int (6)) 135) from xs_bipush hΓ dX5_takesProgram_133 (by decide)) ?_
      refine xw_ii (show xm_Imp g Γ 135 (xi_ii (fun x y => x + y) 136) from xs_iadd hΓ dX5_takesProgram_135) ?_
      obtain ⟨j13, e1, e⟩ := xo_b_s e
      refine xw_mial (k := 33) (v := (s.2.2.2 33 j13)) (show xm_Imp g Γ 136 (xi_ial 137) from xs_ial hG hΓ dX5_takesProgram_136) hM (by decide) rfl e1 rfl ?_
      obtain ⟨j14, e1, e⟩ := xo_b_s e
      refine xw_mias (k := 15) (show xm_Imp g Γ 137 (xi_ias 138) from xs_ias hG hΓ dX5_takesProgram_137) hM (by decide) rfl e1 ?_
      refine xw_ald (show xm_Imp g Γ 138 (xi_ald 0 139) from xs_aload_n hΓ dX5_takesProgram_138) rfl ?_
      refine xw_mga (k := 16) (show xm_Imp g Γ 139 (xi_get 4 16 142) from xs_get hG hΓ (ci := 4) (kf := 16) rfl (Nat.le_of_ble_eq_true rfl) q2866 dX5_takesProgram_139) (fun _ => rfl) ?_
      refine xw_ild (show xm_Imp g Γ 142 (xi_ild 2 143) from xs_iload_n hΓ dX5_takesProgram_142) rfl ?_
      refine xw_ald (show xm_Imp g Γ 143 (xi_ald 0 144) from xs_aload_n hΓ dX5_takesProgram_143) rfl ?_
      refine xw_mga (k := 33) (show xm_Imp g Γ 144 (xi_get 4 33 147) from xs_get hG hΓ (ci := 4) (kf := 33) rfl (Nat.le_of_ble_eq_true rfl) q2883 dX5_takesProgram_144) (fun _ => rfl) ?_
      refine xw_psh (v := (.int (8))) (show xm_Imp g Γ 147 (xi_psh (.int (8)) 149) from xs_bipush hΓ dX5_takesProgram_147 (by decide)) ?_
      refine xw_ild (show xm_Imp g Γ 149 (xi_ild 2 150) from xs_iload_n hΓ dX5_takesProgram_149) rfl ?_
      refine xw_ii (show xm_Imp g Γ 150 (xi_ii (fun x y => x * y) 151) from xs_imul hΓ dX5_takesProgram_150) ?_
      refine xw_psh (v := (.int (7))) (show xm_Imp g Γ 151 (xi_psh (.int (7)) 153) from xs_bipush hΓ dX5_takesProgram_151 (by decide)) ?_
      refine xw_ii (show xm_Imp g Γ 153 (xi_ii (fun x y => x + y) 154) from xs_iadd hΓ dX5_takesProgram_153) ?_
      obtain ⟨j15, e1, e⟩ := xo_b_s e
      refine xw_mial (k := 33) (v := (s.2.2.2 33 j15)) (show xm_Imp g Γ 154 (xi_ial 155) from xs_ial hG hΓ dX5_takesProgram_154) hM (by decide) rfl e1 rfl ?_
      obtain ⟨j16, e1, e⟩ := xo_b_s e
      refine xw_mias (k := 16) (show xm_Imp g Γ 155 (xi_ias 156) from xs_ias hG hΓ dX5_takesProgram_155) hM (by decide) rfl e1 ?_
      refine xw_ald (show xm_Imp g Γ 156 (xi_ald 0 157) from xs_aload_n hΓ dX5_takesProgram_156) rfl ?_
      refine xw_mga (k := 17) (show xm_Imp g Γ 157 (xi_get 4 17 160) from xs_get hG hΓ (ci := 4) (kf := 17) rfl (Nat.le_of_ble_eq_true rfl) q2867 dX5_takesProgram_157) (fun _ => rfl) ?_
      refine xw_ild (show xm_Imp g Γ 160 (xi_ild 2 161) from xs_iload_n hΓ dX5_takesProgram_160) rfl ?_
      refine xw_ild (show xm_Imp g Γ 161 (xi_ild 1 162) from xs_iload_n hΓ dX5_takesProgram_161) rfl ?_
      obtain ⟨j17, e1, e⟩ := xo_b_s e
      refine xw_mias (k := 17) (show xm_Imp g Γ 162 (xi_ias 163) from xs_ias hG hΓ dX5_takesProgram_162) hM (by decide) rfl e1 ?_
      refine xw_ald (show xm_Imp g Γ 163 (xi_ald 0 164) from xs_aload_n hΓ dX5_takesProgram_163) rfl ?_
      refine xw_mga (k := 9) (show xm_Imp g Γ 164 (xi_get 4 9 167) from xs_get hG hΓ (ci := 4) (kf := 9) rfl (Nat.le_of_ble_eq_true rfl) q2859 dX5_takesProgram_164) (fun _ => rfl) ?_
      refine xw_ild (show xm_Imp g Γ 167 (xi_ild 2 168) from xs_iload_n hΓ dX5_takesProgram_167) rfl ?_
      obtain ⟨j18, e1, e⟩ := xo_b_s e
      refine xw_mial (k := 9) (v := ((xM_a s.2.2 9 j2 (s.2.2.2 33 j1)).2 9 j18)) (show xm_Imp g Γ 168 (xi_ial 169) from xs_ial hG hΓ dX5_takesProgram_168) hM (by decide) rfl e1 rfl ?_
      refine xw_psh (v := (.int (9))) (show xm_Imp g Γ 169 (xi_psh (.int (9)) 171) from xs_bipush hΓ dX5_takesProgram_169 (by decide)) ?_
      refine xw_ic (show xm_Imp g Γ 171 (xi_ic (fun x y => x = y) 174 178) from xs_icmp_ne hΓ dX5_takesProgram_171 (by decide)) (fun c => ?_) (fun c => ?_)
      · rw [if_pos c] at e
        refine xw_ild (show xm_Imp g Γ 174 (xi_ild 1 175) from xs_iload_n hΓ dX5_takesProgram_174) rfl ?_
        refine xw_psh (v := (.int (1))) (show xm_Imp g Γ 175 (xi_psh (.int (1)) 176) from xs_iconst hΓ dX5_takesProgram_175 (by decide)) ?_
        refine xw_ii (show xm_Imp g Γ 176 (xi_ii (fun x y => x + y) 177) from xs_iadd hΓ dX5_takesProgram_176) ?_
        refine xw_ist (ls' := [some (.ref m), some (.int (s.1 + 1)), some (.int s.2.1)]) (show xm_Imp g Γ 177 (xi_ist 1 178) from xs_istore_n hΓ dX5_takesProgram_177 (Nat.le_of_ble_eq_true rfl)) rfl ?_
        exact hB_178 _ _ _ _ e hp
      · rw [if_neg c] at e
        exact hB_178 _ _ _ _ e hp
  unfold F_X5_takesProgram at e
  refine xw_ald (show xm_Imp g Γ 0 (xi_ald 0 1) from xs_aload_n hΓ dX5_takesProgram_0) rfl ?_
  refine xw_ald (show xm_Imp g Γ 1 (xi_ald 0 2) from xs_aload_n hΓ dX5_takesProgram_1) rfl ?_
  refine xw_mgi (v := (σ.1 34)) (show xm_Imp g Γ 2 (xi_get 4 34 5) from xs_get hG hΓ (ci := 4) (kf := 34) rfl (Nat.le_of_ble_eq_true rfl) q2884 dX5_takesProgram_2) (fun _ => rfl) rfl ?_
  refine xw_mpi (show xm_Imp g Γ 5 (xi_put 4 18 (.int) 8) from xs_put hG hΓ (ci := 4) (kf := 18) rfl (Nat.le_of_ble_eq_true rfl) rfl (by decide +kernel) q2868 dX5_takesProgram_5) (fun _ _ => rfl) ⟨rfl, rfl⟩ ?_
  refine xw_psh (v := (.int (0))) (show xm_Imp g Γ 8 (xi_psh (.int (0)) 9) from xs_iconst hΓ dX5_takesProgram_8 (by decide)) ?_
  refine xw_ist (ls' := [some (.ref m), some (.int 0), none]) (show xm_Imp g Γ 9 (xi_ist 1 10) from xs_istore_n hΓ dX5_takesProgram_9 (Nat.le_of_ble_eq_true rfl)) rfl ?_
  refine xw_psh (v := (.int (0))) (show xm_Imp g Γ 10 (xi_psh (.int (0)) 11) from xs_iconst hΓ dX5_takesProgram_10 (by decide)) ?_
  refine xw_ist (ls' := [some (.ref m), some (.int 0), some (.int 0)]) (show xm_Imp g Γ 11 (xi_ist 2 12) from xs_istore_n hΓ dX5_takesProgram_11 (Nat.le_of_ble_eq_true rfl)) rfl ?_
  exact hL_12 _ _ e hp
noncomputable def B_X5_parse_109 (σ : xM_S) : Option (Int32 × xM_S) :=
 (if (F_X5_fine σ) = 0 then
 some (((-1), σ)) else
 xo_b (F_X5_begins (σ.1 29) (σ.1 30) σ) (fun v5 =>
 xo_b (F_X5_takesProgram (xM_a (xM_a v5 37 0 0) 37 1 0)) (fun v6 =>
 some (((v6.1 18), v6)))))
noncomputable def D_X5_parse_88  (s : xM_S) : Option ((xM_S) ⊕ (Int32 × xM_S)) :=
 (if (F_X5_fine s) = 0 then
 xl_o (B_X5_parse_109 s) else
 (if (s.1 24) = 0 then
 xl_o (B_X5_parse_109 s) else
 xo_b (F_X5_statement s) (fun v7 =>
 some (Sum.inl v7))))
noncomputable def L_X5_parse_88  (s : xM_S) : Option (Int32 × xM_S) := xl_loop (D_X5_parse_88 ) s
noncomputable def F_X5_parse (σ : xM_S) : Option (Int32 × xM_S) :=
 xo_b (F_X5_next (xM_f (xM_f (xM_f (xM_f (xM_f (xM_f (xM_f (xM_f (xM_f (xM_f σ 0 0) 21 (σ.1 20)) 20 0) 22 0) 27 0) 28 (-1)) 30 0) 31 0) 32 0) 34 0)) (fun v1 =>
 xo_b (F_X5_goOn (F_X5_needs (F_X5_isWord 13 v1) 1 v1)) (fun v2 =>
 xo_b (F_X5_reads 1 8 2 v2) (fun v3 =>
 xo_b (F_X5_passesSemicolon (xM_f v3.2 29 v3.1)) (fun v4 =>
 L_X5_parse_88 v4))))
set_option maxHeartbeats 4000000 in
theorem K_X5_parse {g : xm_G} (hG : xm_Gw g) {h0 : xm_H} {m : Nat} {ad : Nat → Nat} (hM : xM_ok h0 m ad) (hB : xk_B g h0)  (σ : xM_S) {o : Int32 × xM_S} (e : F_X5_parse σ = some o) {Q : xm_P} {X : xm_X} (hQ : Q (some (.int o.1)) (xMp h0 m ad o.2)) : xm_Run g M_X5_parse 19 [.ref m] (xMp h0 m ad σ) 0 0 Q X := by
  refine xm_Run.of pn_StringTableauModel (Nat.le_of_ble_eq_true rfl) (fun Γ hΓ => ?_)
  obtain ⟨P0, hP0, hp⟩ : ∃ P : Int32 × xM_S → Prop, (∀ o, P o → Q (some (.int o.1)) (xMp h0 m ad o.2)) ∧ P o := ⟨fun o => Q (some (.int o.1)) (xMp h0 m ad o.2), fun _ h => h, hQ⟩
  clear hQ
  show xm_W g Γ 0 [some (.ref m)] [] (xMp h0 m ad σ) 0 0
  have hB_109 : ∀ (σ : xM_S) (o : Int32 × xM_S), B_X5_parse_109 σ = some o → P0 o → xm_W g Γ 109 [some (.ref m)] [] (xMp h0 m ad σ) 0 0 := by
    intro σ o e hp
    unfold B_X5_parse_109 at e
    refine xw_ald (show xm_Imp g Γ 109 (xi_ald 0 110) from xs_aload_n hΓ dX5_parse_109) rfl ?_
    refine xw_mv0 (show xm_Imp g Γ 110 (xi_vir g 4 M_X5_fine 1 0 113) from xs_invV hG hΓ k_X5_fine rfl (ci := 4) rfl q3203 q3205 qs79 dX5_parse_110) rfl (fun Q X hQ => K_X5_fine hG hM hB σ rfl hQ) ?_
    refine xw_if (show xm_Imp g Γ 113 (xi_if (fun x => x = 0) 116 118) from xs_if_ne hΓ dX5_parse_113 (by decide)) (fun c => ?_) (fun c => ?_)
    · rw [if_pos c] at e
      refine xw_psh (v := (.int (-1))) (show xm_Imp g Γ 116 (xi_psh (.int (-1)) 117) from xs_iconst hΓ dX5_parse_116 (by decide)) ?_
      exact xw_iret (show xm_Imp g Γ 117 (xi_iret .int _) from xs_ireturn hΓ rfl dX5_parse_117) (xn_int _) (hP0 _ (xl_fin e hp))
    · rw [if_neg c] at e
      refine xw_ald (show xm_Imp g Γ 118 (xi_ald 0 119) from xs_aload_n hΓ dX5_parse_118) rfl ?_
      refine xw_ald (show xm_Imp g Γ 119 (xi_ald 0 120) from xs_aload_n hΓ dX5_parse_119) rfl ?_
      refine xw_mgi (v := (σ.1 29)) (show xm_Imp g Γ 120 (xi_get 4 29 123) from xs_get hG hΓ (ci := 4) (kf := 29) rfl (Nat.le_of_ble_eq_true rfl) q2879 dX5_parse_120) (fun _ => rfl) rfl ?_
      refine xw_ald (show xm_Imp g Γ 123 (xi_ald 0 124) from xs_aload_n hΓ dX5_parse_123) rfl ?_
      refine xw_mgi (v := (σ.1 30)) (show xm_Imp g Γ 124 (xi_get 4 30 127) from xs_get hG hΓ (ci := 4) (kf := 30) rfl (Nat.le_of_ble_eq_true rfl) q2880 dX5_parse_124) (fun _ => rfl) rfl ?_
      obtain ⟨v5, e1, e⟩ := xo_b_s e
      refine xw_mu2 (show xm_Imp g Γ 127 (xi_vir g 4 M_X5_begins 1 2 130) from xs_invV hG hΓ k_X5_begins rfl (ci := 4) rfl q2846 q2848 qs45 dX5_parse_127) rfl (fun Q X hQ => K_X5_begins hG hM hB (σ.1 29) (σ.1 30) σ e1 hQ) ?_
      refine xw_ald (show xm_Imp g Γ 130 (xi_ald 0 131) from xs_aload_n hΓ dX5_parse_130) rfl ?_
      refine xw_mga (k := 37) (show xm_Imp g Γ 131 (xi_get 4 37 134) from xs_get hG hΓ (ci := 4) (kf := 37) rfl (Nat.le_of_ble_eq_true rfl) q2887 dX5_parse_131) (fun _ => rfl) ?_
      refine xw_psh (v := (.int (0))) (show xm_Imp g Γ 134 (xi_psh (.int (0)) 135) from xs_iconst hΓ dX5_parse_134 (by decide)) ?_
      refine xw_psh (v := (.int (0))) (show xm_Imp g Γ 135 (xi_psh (.int (0)) 136) from xs_iconst hΓ dX5_parse_135 (by decide)) ?_
      refine xw_mzas (k := 37) (j := 0) (show xm_Imp g Γ 136 (xi_zas 137) from xs_zas hG hΓ dX5_parse_136) hM (by decide) rfl rfl rfl ?_
      refine xw_ald (show xm_Imp g Γ 137 (xi_ald 0 138) from xs_aload_n hΓ dX5_parse_137) rfl ?_
      refine xw_mga (k := 37) (show xm_Imp g Γ 138 (xi_get 4 37 141) from xs_get hG hΓ (ci := 4) (kf := 37) rfl (Nat.le_of_ble_eq_true rfl) q2887 dX5_parse_138) (fun _ => rfl) ?_
      refine xw_psh (v := (.int (1))) (show xm_Imp g Γ 141 (xi_psh (.int (1)) 142) from xs_iconst hΓ dX5_parse_141 (by decide)) ?_
      refine xw_psh (v := (.int (0))) (show xm_Imp g Γ 142 (xi_psh (.int (0)) 143) from xs_iconst hΓ dX5_parse_142 (by decide)) ?_
      refine xw_mzas (k := 37) (j := 1) (show xm_Imp g Γ 143 (xi_zas 144) from xs_zas hG hΓ dX5_parse_143) hM (by decide) rfl rfl rfl ?_
      refine xw_ald (show xm_Imp g Γ 144 (xi_ald 0 145) from xs_aload_n hΓ dX5_parse_144) rfl ?_
      obtain ⟨v6, e1, e⟩ := xo_b_s e
      refine xw_mu0 (show xm_Imp g Γ 145 (xi_vir g 4 M_X5_takesProgram 1 0 148) from xs_invV hG hΓ k_X5_takesProgram rfl (ci := 4) rfl q3256 q3258 qs92 dX5_parse_145) rfl (fun Q X hQ => K_X5_takesProgram hG hM hB (xM_a (xM_a v5 37 0 0) 37 1 0) e1 hQ) ?_
      refine xw_ald (show xm_Imp g Γ 148 (xi_ald 0 149) from xs_aload_n hΓ dX5_parse_148) rfl ?_
      refine xw_mgi (v := (v6.1 18)) (show xm_Imp g Γ 149 (xi_get 4 18 152) from xs_get hG hΓ (ci := 4) (kf := 18) rfl (Nat.le_of_ble_eq_true rfl) q2868 dX5_parse_149) (fun _ => rfl) rfl ?_
      exact xw_iret (show xm_Imp g Γ 152 (xi_iret .int _) from xs_ireturn hΓ rfl dX5_parse_152) (xn_int _) (hP0 _ (xl_fin e hp))
  have hL_88 : ∀  (s : xM_S) (o : Int32 × xM_S), L_X5_parse_88  s = some o → P0 o → xm_W g Γ 88 [some (.ref m)] [] (xMp h0 m ad s) 0 0 := by
    skip
    refine xl_rule (WS := fun s : xM_S => xm_W g Γ 88 [some (.ref m)] [] (xMp h0 m ad s) 0 0) ?_
    intro s o e hp
    obtain ⟨P1, hP1, hp⟩ : ∃ P : (xM_S) ⊕ (Int32 × xM_S) → Prop, (∀ o, P o → xl_P (fun s : xM_S => xm_W g Γ 88 [some (.ref m)] [] (xMp h0 m ad s) 0 0) P0 o) ∧ P o := ⟨_, fun _ h => h, hp⟩
    unfold D_X5_parse_88 at e
    refine xw_ald (show xm_Imp g Γ 88 (xi_ald 0 89) from xs_aload_n hΓ dX5_parse_88) rfl ?_
    refine xw_mv0 (show xm_Imp g Γ 89 (xi_vir g 4 M_X5_fine 1 0 92) from xs_invV hG hΓ k_X5_fine rfl (ci := 4) rfl q3203 q3205 qs79 dX5_parse_89) rfl (fun Q X hQ => K_X5_fine hG hM hB s rfl hQ) ?_
    refine xw_if (show xm_Imp g Γ 92 (xi_if (fun x => x = 0) 109 95) from xs_if_eq hΓ dX5_parse_92 (by decide)) (fun c => ?_) (fun c => ?_)
    · rw [if_pos c] at e
      obtain ⟨_, e, hp⟩ := xl_o_s e (hP1 _ hp)
      exact hB_109 _ _ e hp
    · rw [if_neg c] at e
      refine xw_ald (show xm_Imp g Γ 95 (xi_ald 0 96) from xs_aload_n hΓ dX5_parse_95) rfl ?_
      refine xw_mgi (v := (s.1 24)) (show xm_Imp g Γ 96 (xi_get 4 24 99) from xs_get hG hΓ (ci := 4) (kf := 24) rfl (Nat.le_of_ble_eq_true rfl) q2874 dX5_parse_96) (fun _ => rfl) rfl ?_
      refine xw_if (show xm_Imp g Γ 99 (xi_if (fun x => x = 0) 109 102) from xs_if_eq hΓ dX5_parse_99 (by decide)) (fun c => ?_) (fun c => ?_)
      · rw [if_pos c] at e
        obtain ⟨_, e, hp⟩ := xl_o_s e (hP1 _ hp)
        exact hB_109 _ _ e hp
      · rw [if_neg c] at e
        refine xw_ald (show xm_Imp g Γ 102 (xi_ald 0 103) from xs_aload_n hΓ dX5_parse_102) rfl ?_
        obtain ⟨v7, e1, e⟩ := xo_b_s e
        refine xw_mu0 (show xm_Imp g Γ 103 (xi_vir g 4 M_X5_statement 18 0 106) from xs_invV hG hΓ k_X5_statement rfl (ci := 4) rfl q3227 q3229 qs85 dX5_parse_103) rfl (fun Q X hQ => K_X5_statement hG hM hB s e1 hQ) ?_
        refine xw_goto (show xm_Imp g Γ 106 (xi_goto 88) from xs_goto hΓ dX5_parse_106 (by decide)) ?_
        have hq := xl_P_inl (hP1 _ (xl_fin e hp)); exact hq
  unfold F_X5_parse at e
  refine xw_ald (show xm_Imp g Γ 0 (xi_ald 0 1) from xs_aload_n hΓ dX5_parse_0) rfl ?_
  refine xw_psh (v := (.int (0))) (show xm_Imp g Γ 1 (xi_psh (.int (0)) 2) from xs_iconst hΓ dX5_parse_1 (by decide)) ?_
  refine xw_mpi (show xm_Imp g Γ 2 (xi_put 4 0 (.int) 5) from xs_put hG hΓ (ci := 4) (kf := 0) rfl (Nat.le_of_ble_eq_true rfl) rfl (by decide +kernel) q2850 dX5_parse_2) (fun _ _ => rfl) ⟨rfl, rfl⟩ ?_
  refine xw_ald (show xm_Imp g Γ 5 (xi_ald 0 6) from xs_aload_n hΓ dX5_parse_5) rfl ?_
  refine xw_ald (show xm_Imp g Γ 6 (xi_ald 0 7) from xs_aload_n hΓ dX5_parse_6) rfl ?_
  refine xw_mgi (v := (σ.1 20)) (show xm_Imp g Γ 7 (xi_get 4 20 10) from xs_get hG hΓ (ci := 4) (kf := 20) rfl (Nat.le_of_ble_eq_true rfl) q2870 dX5_parse_7) (fun _ => rfl) rfl ?_
  refine xw_mpi (show xm_Imp g Γ 10 (xi_put 4 21 (.int) 13) from xs_put hG hΓ (ci := 4) (kf := 21) rfl (Nat.le_of_ble_eq_true rfl) rfl (by decide +kernel) q2871 dX5_parse_10) (fun _ _ => rfl) ⟨rfl, rfl⟩ ?_
  refine xw_ald (show xm_Imp g Γ 13 (xi_ald 0 14) from xs_aload_n hΓ dX5_parse_13) rfl ?_
  refine xw_psh (v := (.int (0))) (show xm_Imp g Γ 14 (xi_psh (.int (0)) 15) from xs_iconst hΓ dX5_parse_14 (by decide)) ?_
  refine xw_mpi (show xm_Imp g Γ 15 (xi_put 4 20 (.int) 18) from xs_put hG hΓ (ci := 4) (kf := 20) rfl (Nat.le_of_ble_eq_true rfl) rfl (by decide +kernel) q2870 dX5_parse_15) (fun _ _ => rfl) ⟨rfl, rfl⟩ ?_
  refine xw_ald (show xm_Imp g Γ 18 (xi_ald 0 19) from xs_aload_n hΓ dX5_parse_18) rfl ?_
  refine xw_psh (v := (.int (0))) (show xm_Imp g Γ 19 (xi_psh (.int (0)) 20) from xs_iconst hΓ dX5_parse_19 (by decide)) ?_
  refine xw_mpi (show xm_Imp g Γ 20 (xi_put 4 22 (.int) 23) from xs_put hG hΓ (ci := 4) (kf := 22) rfl (Nat.le_of_ble_eq_true rfl) rfl (by decide +kernel) q2872 dX5_parse_20) (fun _ _ => rfl) ⟨rfl, rfl⟩ ?_
  refine xw_ald (show xm_Imp g Γ 23 (xi_ald 0 24) from xs_aload_n hΓ dX5_parse_23) rfl ?_
  refine xw_psh (v := (.int (0))) (show xm_Imp g Γ 24 (xi_psh (.int (0)) 25) from xs_iconst hΓ dX5_parse_24 (by decide)) ?_
  refine xw_mpi (show xm_Imp g Γ 25 (xi_put 4 27 (.int) 28) from xs_put hG hΓ (ci := 4) (kf := 27) rfl (Nat.le_of_ble_eq_true rfl) rfl (by decide +kernel) q2877 dX5_parse_25) (fun _ _ => rfl) ⟨rfl, rfl⟩ ?_
  refine xw_ald (show xm_Imp g Γ 28 (xi_ald 0 29) from xs_aload_n hΓ dX5_parse_28) rfl ?_
  refine xw_psh (v := (.int (-1))) (show xm_Imp g Γ 29 (xi_psh (.int (-1)) 30) from xs_iconst hΓ dX5_parse_29 (by decide)) ?_
  refine xw_mpi (show xm_Imp g Γ 30 (xi_put 4 28 (.int) 33) from xs_put hG hΓ (ci := 4) (kf := 28) rfl (Nat.le_of_ble_eq_true rfl) rfl (by decide +kernel) q2878 dX5_parse_30) (fun _ _ => rfl) ⟨rfl, rfl⟩ ?_
  refine xw_ald (show xm_Imp g Γ 33 (xi_ald 0 34) from xs_aload_n hΓ dX5_parse_33) rfl ?_
  refine xw_psh (v := (.int (0))) (show xm_Imp g Γ 34 (xi_psh (.int (0)) 35) from xs_iconst hΓ dX5_parse_34 (by decide)) ?_
  refine xw_mpi (show xm_Imp g Γ 35 (xi_put 4 30 (.int) 38) from xs_put hG hΓ (ci := 4) (kf := 30) rfl (Nat.le_of_ble_eq_true rfl) rfl (by decide +kernel) q2880 dX5_parse_35) (fun _ _ => rfl) ⟨rfl, rfl⟩ ?_
  refine xw_ald (show xm_Imp g Γ 38 (xi_ald 0 39) from xs_aload_n hΓ dX5_parse_38) rfl ?_
  refine xw_psh (v := (.int (0))) (show xm_Imp g Γ 39 (xi_psh (.int (0)) 40) from xs_iconst hΓ dX5_parse_39 (by decide)) ?_
  refine xw_mpi (show xm_Imp g Γ 40 (xi_put 4 31 (.boolean) 43) from xs_put hG hΓ (ci := 4) (kf := 31) rfl (Nat.le_of_ble_eq_true rfl) rfl (by decide +kernel) q2881 dX5_parse_40) (fun _ _ => rfl) ⟨rfl, rfl⟩ ?_
  refine xw_ald (show xm_Imp g Γ 43 (xi_ald 0 44) from xs_aload_n hΓ dX5_parse_43) rfl ?_
  refine xw_psh (v := (.int (0))) (show xm_Imp g Γ 44 (xi_psh (.int (0)) 45) from xs_iconst hΓ dX5_parse_44 (by decide)) ?_
  refine xw_mpi (show xm_Imp g Γ 45 (xi_put 4 32 (.int) 48) from xs_put hG hΓ (ci := 4) (kf := 32) rfl (Nat.le_of_ble_eq_true rfl) rfl (by decide +kernel) q2882 dX5_parse_45) (fun _ _ => rfl) ⟨rfl, rfl⟩ ?_
  refine xw_ald (show xm_Imp g Γ 48 (xi_ald 0 49) from xs_aload_n hΓ dX5_parse_48) rfl ?_
  refine xw_psh (v := (.int (0))) (show xm_Imp g Γ 49 (xi_psh (.int (0)) 50) from xs_iconst hΓ dX5_parse_49 (by decide)) ?_
  refine xw_mpi (show xm_Imp g Γ 50 (xi_put 4 34 (.int) 53) from xs_put hG hΓ (ci := 4) (kf := 34) rfl (Nat.le_of_ble_eq_true rfl) rfl (by decide +kernel) q2884 dX5_parse_50) (fun _ _ => rfl) ⟨rfl, rfl⟩ ?_
  refine xw_ald (show xm_Imp g Γ 53 (xi_ald 0 54) from xs_aload_n hΓ dX5_parse_53) rfl ?_
  obtain ⟨v1, e1, e⟩ := xo_b_s e
  refine xw_mu0 (show xm_Imp g Γ 54 (xi_vir g 4 M_X5_next 13 0 57) from xs_invV hG hΓ k_X5_next rfl (ci := 4) rfl q3177 q3179 qs75 dX5_parse_54) rfl (fun Q X hQ => K_X5_next hG hM hB (xM_f (xM_f (xM_f (xM_f (xM_f (xM_f (xM_f (xM_f (xM_f (xM_f σ 0 0) 21 (σ.1 20)) 20 0) 22 0) 27 0) 28 (-1)) 30 0) 31 0) 32 0) 34 0) e1 hQ) ?_
  refine xw_ald (show xm_Imp g Γ 57 (xi_ald 0 58) from xs_aload_n hΓ dX5_parse_57) rfl ?_
  refine xw_ald (show xm_Imp g Γ 58 (xi_ald 0 59) from xs_aload_n hΓ dX5_parse_58) rfl ?_
  refine xw_psh (v := (.int (13))) (show xm_Imp g Γ 59 (xi_psh (.int (13)) 61) from xs_bipush hΓ dX5_parse_59 (by decide)) ?_
  refine xw_mv1 (show xm_Imp g Γ 61 (xi_vir g 4 M_X5_isWord 2 1 64) from xs_invV hG hΓ k_X5_isWord rfl (ci := 4) rfl q3199 q3201 qs78 dX5_parse_61) rfl (fun Q X hQ => K_X5_isWord hG hM hB 13 v1 rfl hQ) ?_
  refine xw_psh (v := (.int (1))) (show xm_Imp g Γ 64 (xi_psh (.int (1)) 65) from xs_iconst hΓ dX5_parse_64 (by decide)) ?_
  refine xw_mu2 (show xm_Imp g Γ 65 (xi_vir g 4 M_X5_needs 1 2 68) from xs_invV hG hΓ k_X5_needs rfl (ci := 4) rfl q3207 q3209 qs80 dX5_parse_65) rfl (fun Q X hQ => K_X5_needs hG hM hB (F_X5_isWord 13 v1) 1 v1 rfl hQ) ?_
  refine xw_ald (show xm_Imp g Γ 68 (xi_ald 0 69) from xs_aload_n hΓ dX5_parse_68) rfl ?_
  obtain ⟨v2, e1, e⟩ := xo_b_s e
  refine xw_mu0 (show xm_Imp g Γ 69 (xi_vir g 4 M_X5_goOn 14 0 72) from xs_invV hG hΓ k_X5_goOn rfl (ci := 4) rfl q3211 q3213 qs81 dX5_parse_69) rfl (fun Q X hQ => K_X5_goOn hG hM hB (F_X5_needs (F_X5_isWord 13 v1) 1 v1) e1 hQ) ?_
  refine xw_ald (show xm_Imp g Γ 72 (xi_ald 0 73) from xs_aload_n hΓ dX5_parse_72) rfl ?_
  refine xw_ald (show xm_Imp g Γ 73 (xi_ald 0 74) from xs_aload_n hΓ dX5_parse_73) rfl ?_
  refine xw_psh (v := (.int (1))) (show xm_Imp g Γ 74 (xi_psh (.int (1)) 75) from xs_iconst hΓ dX5_parse_74 (by decide)) ?_
  refine xw_psh (v := (.int (8))) (show xm_Imp g Γ 75 (xi_psh (.int (8)) 77) from xs_bipush hΓ dX5_parse_75 (by decide)) ?_
  refine xw_psh (v := (.int (2))) (show xm_Imp g Γ 77 (xi_psh (.int (2)) 78) from xs_iconst hΓ dX5_parse_77 (by decide)) ?_
  obtain ⟨v3, e1, e⟩ := xo_b_s e
  refine xw_mv3 (show xm_Imp g Γ 78 (xi_vir g 4 M_X5_reads 15 3 81) from xs_invV hG hΓ k_X5_reads rfl (ci := 4) rfl q3215 q3217 qs82 dX5_parse_78) rfl (fun Q X hQ => K_X5_reads hG hM hB 1 8 2 v2 e1 hQ) ?_
  refine xw_mpi (show xm_Imp g Γ 81 (xi_put 4 29 (.int) 84) from xs_put hG hΓ (ci := 4) (kf := 29) rfl (Nat.le_of_ble_eq_true rfl) rfl (by decide +kernel) q2879 dX5_parse_81) (fun _ _ => rfl) ⟨rfl, rfl⟩ ?_
  refine xw_ald (show xm_Imp g Γ 84 (xi_ald 0 85) from xs_aload_n hΓ dX5_parse_84) rfl ?_
  obtain ⟨v4, e1, e⟩ := xo_b_s e
  refine xw_mu0 (show xm_Imp g Γ 85 (xi_vir g 4 M_X5_passesSemicolon 15 0 88) from xs_invV hG hΓ k_X5_passesSemicolon rfl (ci := 4) rfl q3219 q3221 qs83 dX5_parse_85) rfl (fun Q X hQ => K_X5_passesSemicolon hG hM hB (xM_f v3.2 29 v3.1) e1 hQ) ?_
  exact hL_88 _ _ e hp
