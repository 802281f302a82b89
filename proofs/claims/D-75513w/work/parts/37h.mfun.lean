/-! THE REFERENCE as functions (printed by gen/mkmfun.py) -/
set_option maxRecDepth 100000
noncomputable def B_X5_closestPair_111 (l1 : Int32) (l2 : Int32) (l3 : Int32) (l4 : Int32) (σ : xM_S) : Option ((Int32 × Int32 × Int32) ⊕ ((Int32 × Int32 × Int32) ⊕ (Int32 × xM_S))) :=
 some (Sum.inl (l1, l2, l4 + 1))
noncomputable def D_X5_closestPair_49 (l3 : Int32) (σ : xM_S) (s : Int32 × Int32 × Int32) : Option ((Int32 × Int32 × Int32) ⊕ ((Int32 × Int32 × Int32) ⊕ (Int32 × xM_S))) :=
 (if (σ.2 1 0) ≤ s.2.2 then
 xl_o (some (Sum.inl (s.1, s.2.1, l3 + 1))) else
 xo_b (F_X5_entropyOf (1 <<< (l3 &&& 31)) σ) (fun v3 =>
 xo_b (F_X5_entropyOf (1 <<< (s.2.2 &&& 31)) σ) (fun v4 =>
 xo_b (F_X5_entropyOf ((1 <<< (l3 &&& 31)) ||| (1 <<< (s.2.2 &&& 31))) σ) (fun v5 =>
 B_X5_closestPair_111 (if s.2.1 < ((v3 + v4) - v5) then (8 * l3) + s.2.2 else s.1) (if s.2.1 < ((v3 + v4) - v5) then (v3 + v4) - v5 else s.2.1) l3 s.2.2 σ))))
noncomputable def L_X5_closestPair_49 (l3 : Int32) (σ : xM_S) (s : Int32 × Int32 × Int32) : Option ((Int32 × Int32 × Int32) ⊕ (Int32 × xM_S)) := xl_loop (D_X5_closestPair_49 l3 σ) s
noncomputable def D_X5_closestPair_34 (σ : xM_S) (s : Int32 × Int32 × Int32) : Option ((Int32 × Int32 × Int32) ⊕ (Int32 × xM_S)) :=
 (if (σ.2 1 0) ≤ s.2.2 then
 xl_o (some ((s.1, σ))) else
 L_X5_closestPair_49 s.2.2 σ (s.1, s.2.1, s.2.2 + 1))
noncomputable def L_X5_closestPair_34 (σ : xM_S) (s : Int32 × Int32 × Int32) : Option (Int32 × xM_S) := xl_loop (D_X5_closestPair_34 σ) s
noncomputable def B_X5_closestPair_16 (s1 : Int32) (σ : xM_S) : Option (Int32 × xM_S) :=
 xo_b (F_X5_is s1 σ) (fun v1 =>
 (if v1.1 = 0 then
 some ((0, v1.2)) else
 xo_b (F_X5_laysSupports v1.2) (fun v2 =>
 L_X5_closestPair_34 v2 (0, (-1), 0))))
noncomputable def F_X5_closestPair (σ : xM_S) : Option (Int32 × xM_S) :=
 B_X5_closestPair_16 (if (σ.2 1 0) ≤ 1 then 0 else 1) σ
set_option maxHeartbeats 4000000 in
theorem K_X5_closestPair {g : xm_G} (hG : xm_Gw g) {h0 : xm_H} {m : Nat} {ad : Nat → Nat} (hM : xM_ok h0 m ad) (hB : xk_B g h0)  (σ : xM_S) {o : Int32 × xM_S} (e : F_X5_closestPair σ = some o) {Q : xm_P} {X : xm_X} (hQ : Q (some (.int o.1)) (xMp h0 m ad o.2)) : xm_Run g M_X5_closestPair 7 [.ref m] (xMp h0 m ad σ) 0 0 Q X := by
  refine xm_Run.of pn_StringTableauModel (Nat.le_of_ble_eq_true rfl) (fun Γ hΓ => ?_)
  obtain ⟨P0, hP0, hp⟩ : ∃ P : Int32 × xM_S → Prop, (∀ o, P o → Q (some (.int o.1)) (xMp h0 m ad o.2)) ∧ P o := ⟨fun o => Q (some (.int o.1)) (xMp h0 m ad o.2), fun _ h => h, hQ⟩
  clear hQ
  show xm_W g Γ 0 [some (.ref m), none, none, none, none, none] [] (xMp h0 m ad σ) 0 0
  have hL_34 : ∀ (σ : xM_S) (s : Int32 × Int32 × Int32) (o : Int32 × xM_S), L_X5_closestPair_34 σ s = some o → P0 o → xm_W g Γ 34 [some (.ref m), some (.int s.1), some (.int s.2.1), some (.int s.2.2), none, none] [] (xMp h0 m ad σ) 0 0 := by
    intro σ
    refine xl_rule (WS := fun s : Int32 × Int32 × Int32 => xm_W g Γ 34 [some (.ref m), some (.int s.1), some (.int s.2.1), some (.int s.2.2), none, none] [] (xMp h0 m ad σ) 0 0) ?_
    intro s o e hp
    obtain ⟨P1, hP1, hp⟩ : ∃ P : (Int32 × Int32 × Int32) ⊕ (Int32 × xM_S) → Prop, (∀ o, P o → xl_P (fun s : Int32 × Int32 × Int32 => xm_W g Γ 34 [some (.ref m), some (.int s.1), some (.int s.2.1), some (.int s.2.2), none, none] [] (xMp h0 m ad σ) 0 0) P0 o) ∧ P o := ⟨_, fun _ h => h, hp⟩
    have hL_49 : ∀ (l3 : Int32) (s : Int32 × Int32 × Int32) (o : (Int32 × Int32 × Int32) ⊕ (Int32 × xM_S)), L_X5_closestPair_49 l3 σ s = some o → P1 o → xm_W g Γ 49 [some (.ref m), some (.int s.1), some (.int s.2.1), some (.int l3), some (.int s.2.2), none] [] (xMp h0 m ad σ) 0 0 := by
      intro l3
      refine xl_rule (WS := fun s : Int32 × Int32 × Int32 => xm_W g Γ 49 [some (.ref m), some (.int s.1), some (.int s.2.1), some (.int l3), some (.int s.2.2), none] [] (xMp h0 m ad σ) 0 0) ?_
      intro s o e hp
      obtain ⟨P2, hP2, hp⟩ : ∃ P : (Int32 × Int32 × Int32) ⊕ ((Int32 × Int32 × Int32) ⊕ (Int32 × xM_S)) → Prop, (∀ o, P o → xl_P (fun s : Int32 × Int32 × Int32 => xm_W g Γ 49 [some (.ref m), some (.int s.1), some (.int s.2.1), some (.int l3), some (.int s.2.2), none] [] (xMp h0 m ad σ) 0 0) P1 o) ∧ P o := ⟨_, fun _ h => h, hp⟩
      have hB_111 : ∀ (l1 : Int32) (l2 : Int32) (l4 : Int32) (o : (Int32 × Int32 × Int32) ⊕ ((Int32 × Int32 × Int32) ⊕ (Int32 × xM_S))), B_X5_closestPair_111 l1 l2 l3 l4 σ = some o → P2 o → xm_W g Γ 111 [some (.ref m), some (.int l1), some (.int l2), some (.int l3), some (.int l4), none] [] (xMp h0 m ad σ) 0 0 := by
        intro l1 l2 l4 o e hp
        unfold B_X5_closestPair_111 at e
        refine xw_inc (v := (1)) (ls' := [some (.ref m), some (.int l1), some (.int l2), some (.int l3), some (.int (l4 + 1)), none]) (show xm_Imp g Γ 111 (xi_inc 4 (1) 114) from xs_iinc hΓ dX5_closestPair_111 (by decide) (Nat.le_of_ble_eq_true rfl)) rfl rfl ?_
        refine xw_goto (show xm_Imp g Γ 114 (xi_goto 49) from xs_goto hΓ dX5_closestPair_114 (by decide)) ?_
        have hq := xl_P_inl (hP2 _ (xl_fin e hp)); exact hq
      unfold D_X5_closestPair_49 at e
      refine xw_ild (show xm_Imp g Γ 49 (xi_ild 4 51) from xs_iload hΓ dX5_closestPair_49) rfl ?_
      refine xw_ald (show xm_Imp g Γ 51 (xi_ald 0 52) from xs_aload_n hΓ dX5_closestPair_51) rfl ?_
      refine xw_mga (k := 1) (show xm_Imp g Γ 52 (xi_get 4 1 55) from xs_get hG hΓ (ci := 4) (kf := 1) rfl (Nat.le_of_ble_eq_true rfl) q2851 dX5_closestPair_52) (fun _ => rfl) ?_
      refine xw_psh (v := (.int (0))) (show xm_Imp g Γ 55 (xi_psh (.int (0)) 56) from xs_iconst hΓ dX5_closestPair_55 (by decide)) ?_
      refine xw_mial (k := 1) (j := 0) (v := (σ.2 1 0)) (show xm_Imp g Γ 56 (xi_ial 57) from xs_ial hG hΓ dX5_closestPair_56) hM (by decide) rfl rfl rfl ?_
      refine xw_ic (show xm_Imp g Γ 57 (xi_ic (fun x y => y ≤ x) 117 60) from xs_icmp_ge hΓ dX5_closestPair_57 (by decide)) (fun c => ?_) (fun c => ?_)
      · rw [if_pos c] at e
        obtain ⟨_, e, hp⟩ := xl_o_s e (hP2 _ hp)
        refine xw_inc (v := (1)) (ls' := [some (.ref m), some (.int s.1), some (.int s.2.1), some (.int (l3 + 1)), some (.int s.2.2), none]) (show xm_Imp g Γ 117 (xi_inc 3 (1) 120) from xs_iinc hΓ dX5_closestPair_117 (by decide) (Nat.le_of_ble_eq_true rfl)) rfl rfl ?_
        refine xw_goto (show xm_Imp g Γ 120 (xi_goto 34) from xs_goto hΓ dX5_closestPair_120 (by decide)) ?_
        have hq := xl_P_inl (hP1 _ (xl_fin e hp)); exact xm_lx (hq) (And.intro rfl (And.intro rfl (And.intro rfl (And.intro rfl (trivial)))))
      · rw [if_neg c] at e
        refine xw_ald (show xm_Imp g Γ 60 (xi_ald 0 61) from xs_aload_n hΓ dX5_closestPair_60) rfl ?_
        refine xw_psh (v := (.int (1))) (show xm_Imp g Γ 61 (xi_psh (.int (1)) 62) from xs_iconst hΓ dX5_closestPair_61 (by decide)) ?_
        refine xw_ild (show xm_Imp g Γ 62 (xi_ild 3 63) from xs_iload_n hΓ dX5_closestPair_62) rfl ?_
        refine xw_ii (show xm_Imp g Γ 63 (xi_ii (fun x y => x <<< (y &&& 31)) 64) from xs_ishl hΓ dX5_closestPair_63) ?_
        obtain ⟨v3, e1, e⟩ := xo_b_s e
        refine xw_mv1 (show xm_Imp g Γ 64 (xi_vir g 4 M_X5_entropyOf 2 1 67) from xs_invV hG hΓ k_X5_entropyOf rfl (ci := 4) rfl q3393 q3395 qs106 dX5_closestPair_64) rfl (fun Q X hQ => K_X5_entropyOf hG hM hB (1 <<< (l3 &&& 31)) σ e1 hQ) ?_
        refine xw_ald (show xm_Imp g Γ 67 (xi_ald 0 68) from xs_aload_n hΓ dX5_closestPair_67) rfl ?_
        refine xw_psh (v := (.int (1))) (show xm_Imp g Γ 68 (xi_psh (.int (1)) 69) from xs_iconst hΓ dX5_closestPair_68 (by decide)) ?_
        refine xw_ild (show xm_Imp g Γ 69 (xi_ild 4 71) from xs_iload hΓ dX5_closestPair_69) rfl ?_
        refine xw_ii (show xm_Imp g Γ 71 (xi_ii (fun x y => x <<< (y &&& 31)) 72) from xs_ishl hΓ dX5_closestPair_71) ?_
        obtain ⟨v4, e1, e⟩ := xo_b_s e
        refine xw_mv1 (show xm_Imp g Γ 72 (xi_vir g 4 M_X5_entropyOf 2 1 75) from xs_invV hG hΓ k_X5_entropyOf rfl (ci := 4) rfl q3393 q3395 qs106 dX5_closestPair_72) rfl (fun Q X hQ => K_X5_entropyOf hG hM hB (1 <<< (s.2.2 &&& 31)) σ e1 hQ) ?_
        refine xw_ii (show xm_Imp g Γ 75 (xi_ii (fun x y => x + y) 76) from xs_iadd hΓ dX5_closestPair_75) ?_
        refine xw_ald (show xm_Imp g Γ 76 (xi_ald 0 77) from xs_aload_n hΓ dX5_closestPair_76) rfl ?_
        refine xw_psh (v := (.int (1))) (show xm_Imp g Γ 77 (xi_psh (.int (1)) 78) from xs_iconst hΓ dX5_closestPair_77 (by decide)) ?_
        refine xw_ild (show xm_Imp g Γ 78 (xi_ild 3 79) from xs_iload_n hΓ dX5_closestPair_78) rfl ?_
        refine xw_ii (show xm_Imp g Γ 79 (xi_ii (fun x y => x <<< (y &&& 31)) 80) from xs_ishl hΓ dX5_closestPair_79) ?_
        refine xw_psh (v := (.int (1))) (show xm_Imp g Γ 80 (xi_psh (.int (1)) 81) from xs_iconst hΓ dX5_closestPair_80 (by decide)) ?_
        refine xw_ild (show xm_Imp g Γ 81 (xi_ild 4 83) from xs_iload hΓ dX5_closestPair_81) rfl ?_
        refine xw_ii (show xm_Imp g Γ 83 (xi_ii (fun x y => x <<< (y &&& 31)) 84) from xs_ishl hΓ dX5_closestPair_83) ?_
        refine xw_ii (show xm_Imp g Γ 84 (xi_ii (fun x y => x ||| y) 85) from xs_ior hΓ dX5_closestPair_84) ?_
        obtain ⟨v5, e1, e⟩ := xo_b_s e
        refine xw_mv1 (show xm_Imp g Γ 85 (xi_vir g 4 M_X5_entropyOf 2 1 88) from xs_invV hG hΓ k_X5_entropyOf rfl (ci := 4) rfl q3393 q3395 qs106 dX5_closestPair_85) rfl (fun Q X hQ => K_X5_entropyOf hG hM hB ((1 <<< (l3 &&& 31)) ||| (1 <<< (s.2.2 &&& 31))) σ e1 hQ) ?_
        refine xw_ii (show xm_Imp g Γ 88 (xi_ii (fun x y => x - y) 89) from xs_isub hΓ dX5_closestPair_88) ?_
        refine xw_ist (ls' := [some (.ref m), some (.int s.1), some (.int s.2.1), some (.int l3), some (.int s.2.2), some (.int ((v3 + v4) - v5))]) (show xm_Imp g Γ 89 (xi_ist 5 91) from xs_istore hΓ dX5_closestPair_89 (Nat.le_of_ble_eq_true rfl)) rfl ?_
        refine xw_ild (show xm_Imp g Γ 91 (xi_ild 5 93) from xs_iload hΓ dX5_closestPair_91) rfl ?_
        refine xw_ild (show xm_Imp g Γ 93 (xi_ild 2 94) from xs_iload_n hΓ dX5_closestPair_93) rfl ?_
        refine xw_ic (show xm_Imp g Γ 94 (xi_ic (fun x y => y < x) 100 97) from xs_icmp_gt hΓ dX5_closestPair_94 (by decide)) (fun c => ?_) (fun c => ?_)
        · simp only [if_pos c] at e
          refine xw_psh (v := (.int (8))) (show xm_Imp g Γ 100 (xi_psh (.int (8)) 102) from xs_bipush hΓ dX5_closestPair_100 (by decide)) ?_
          refine xw_ild (show xm_Imp g Γ 102 (xi_ild 3 103) from xs_iload_n hΓ dX5_closestPair_102) rfl ?_
          refine xw_ii (show xm_Imp g Γ 103 (xi_ii (fun x y => x * y) 104) from xs_imul hΓ dX5_closestPair_103) ?_
          refine xw_ild (show xm_Imp g Γ 104 (xi_ild 4 106) from xs_iload hΓ dX5_closestPair_104) rfl ?_
          refine xw_ii (show xm_Imp g Γ 106 (xi_ii (fun x y => x + y) 107) from xs_iadd hΓ dX5_closestPair_106) ?_
          refine xw_ist (ls' := [some (.ref m), some (.int ((8 * l3) + s.2.2)), some (.int s.2.1), some (.int l3), some (.int s.2.2), some (.int ((v3 + v4) - v5))]) (show xm_Imp g Γ 107 (xi_ist 1 108) from xs_istore_n hΓ dX5_closestPair_107 (Nat.le_of_ble_eq_true rfl)) rfl ?_
          refine xw_ild (show xm_Imp g Γ 108 (xi_ild 5 110) from xs_iload hΓ dX5_closestPair_108) rfl ?_
          refine xw_ist (ls' := [some (.ref m), some (.int ((8 * l3) + s.2.2)), some (.int ((v3 + v4) - v5)), some (.int l3), some (.int s.2.2), some (.int ((v3 + v4) - v5))]) (show xm_Imp g Γ 110 (xi_ist 2 111) from xs_istore_n hΓ dX5_closestPair_110 (Nat.le_of_ble_eq_true rfl)) rfl ?_
          exact xm_lx (hB_111 _ _ _ _ e hp) (And.intro rfl (And.intro rfl (And.intro rfl (And.intro rfl (And.intro rfl (trivial))))))
        · simp only [if_neg c] at e
          refine xw_goto (show xm_Imp g Γ 97 (xi_goto 111) from xs_goto hΓ dX5_closestPair_97 (by decide)) ?_
          exact xm_lx (hB_111 _ _ _ _ e hp) (And.intro rfl (And.intro rfl (And.intro rfl (And.intro rfl (And.intro rfl (trivial))))))
    unfold D_X5_closestPair_34 at e
    refine xw_ild (show xm_Imp g Γ 34 (xi_ild 3 35) from xs_iload_n hΓ dX5_closestPair_34) rfl ?_
    refine xw_ald (show xm_Imp g Γ 35 (xi_ald 0 36) from xs_aload_n hΓ dX5_closestPair_35) rfl ?_
    refine xw_mga (k := 1) (show xm_Imp g Γ 36 (xi_get 4 1 39) from xs_get hG hΓ (ci := 4) (kf := 1) rfl (Nat.le_of_ble_eq_true rfl) q2851 dX5_closestPair_36) (fun _ => rfl) ?_
    refine xw_psh (v := (.int (0))) (show xm_Imp g Γ 39 (xi_psh (.int (0)) 40) from xs_iconst hΓ dX5_closestPair_39 (by decide)) ?_
    refine xw_mial (k := 1) (j := 0) (v := (σ.2 1 0)) (show xm_Imp g Γ 40 (xi_ial 41) from xs_ial hG hΓ dX5_closestPair_40) hM (by decide) rfl rfl rfl ?_
    refine xw_ic (show xm_Imp g Γ 41 (xi_ic (fun x y => y ≤ x) 123 44) from xs_icmp_ge hΓ dX5_closestPair_41 (by decide)) (fun c => ?_) (fun c => ?_)
    · rw [if_pos c] at e
      obtain ⟨_, e, hp⟩ := xl_o_s e (hP1 _ hp)
      refine xw_ild (show xm_Imp g Γ 123 (xi_ild 1 124) from xs_iload_n hΓ dX5_closestPair_123) rfl ?_
      exact xw_iret (show xm_Imp g Γ 124 (xi_iret .int _) from xs_ireturn hΓ rfl dX5_closestPair_124) (xn_int _) (hP0 _ (xl_fin e hp))
    · rw [if_neg c] at e
      refine xw_ild (show xm_Imp g Γ 44 (xi_ild 3 45) from xs_iload_n hΓ dX5_closestPair_44) rfl ?_
      refine xw_psh (v := (.int (1))) (show xm_Imp g Γ 45 (xi_psh (.int (1)) 46) from xs_iconst hΓ dX5_closestPair_45 (by decide)) ?_
      refine xw_ii (show xm_Imp g Γ 46 (xi_ii (fun x y => x + y) 47) from xs_iadd hΓ dX5_closestPair_46) ?_
      refine xw_ist (ls' := [some (.ref m), some (.int s.1), some (.int s.2.1), some (.int s.2.2), some (.int (s.2.2 + 1)), none]) (show xm_Imp g Γ 47 (xi_ist 4 49) from xs_istore hΓ dX5_closestPair_47 (Nat.le_of_ble_eq_true rfl)) rfl ?_
      exact hL_49 _ _ _ e hp
  have hB_16 : ∀ (s1 : Int32) (σ : xM_S) (o : Int32 × xM_S), B_X5_closestPair_16 s1 σ = some o → P0 o → xm_W g Γ 16 [some (.ref m), none, none, none, none, none] [.int s1, .ref m] (xMp h0 m ad σ) 0 0 := by
    intro s1 σ o e hp
    unfold B_X5_closestPair_16 at e
    obtain ⟨v1, e1, e⟩ := xo_b_s e
    refine xw_mv1 (show xm_Imp g Γ 16 (xi_vir g 4 M_X5_is 1 1 19) from xs_invV hG hΓ k_X5_is rfl (ci := 4) rfl q2986 q2988 qs46 dX5_closestPair_16) rfl (fun Q X hQ => K_X5_is hG hM hB s1 σ e1 hQ) ?_
    refine xw_if (show xm_Imp g Γ 19 (xi_if (fun x => x = 0) 22 24) from xs_if_ne hΓ dX5_closestPair_19 (by decide)) (fun c => ?_) (fun c => ?_)
    · rw [if_pos c] at e
      refine xw_psh (v := (.int (0))) (show xm_Imp g Γ 22 (xi_psh (.int (0)) 23) from xs_iconst hΓ dX5_closestPair_22 (by decide)) ?_
      exact xw_iret (show xm_Imp g Γ 23 (xi_iret .int _) from xs_ireturn hΓ rfl dX5_closestPair_23) (xn_int _) (hP0 _ (xl_fin e hp))
    · rw [if_neg c] at e
      refine xw_ald (show xm_Imp g Γ 24 (xi_ald 0 25) from xs_aload_n hΓ dX5_closestPair_24) rfl ?_
      obtain ⟨v2, e1, e⟩ := xo_b_s e
      refine xw_mu0 (show xm_Imp g Γ 25 (xi_vir g 4 M_X5_laysSupports 6 0 28) from xs_invV hG hΓ k_X5_laysSupports rfl (ci := 4) rfl q3389 q3391 qs105 dX5_closestPair_25) rfl (fun Q X hQ => K_X5_laysSupports hG hM hB v1.2 e1 hQ) ?_
      refine xw_psh (v := (.int (0))) (show xm_Imp g Γ 28 (xi_psh (.int (0)) 29) from xs_iconst hΓ dX5_closestPair_28 (by decide)) ?_
      refine xw_ist (ls' := [some (.ref m), some (.int 0), none, none, none, none]) (show xm_Imp g Γ 29 (xi_ist 1 30) from xs_istore_n hΓ dX5_closestPair_29 (Nat.le_of_ble_eq_true rfl)) rfl ?_
      refine xw_psh (v := (.int (-1))) (show xm_Imp g Γ 30 (xi_psh (.int (-1)) 31) from xs_iconst hΓ dX5_closestPair_30 (by decide)) ?_
      refine xw_ist (ls' := [some (.ref m), some (.int 0), some (.int (-1)), none, none, none]) (show xm_Imp g Γ 31 (xi_ist 2 32) from xs_istore_n hΓ dX5_closestPair_31 (Nat.le_of_ble_eq_true rfl)) rfl ?_
      refine xw_psh (v := (.int (0))) (show xm_Imp g Γ 32 (xi_psh (.int (0)) 33) from xs_iconst hΓ dX5_closestPair_32 (by decide)) ?_
      refine xw_ist (ls' := [some (.ref m), some (.int 0), some (.int (-1)), some (.int 0), none, none]) (show xm_Imp g Γ 33 (xi_ist 3 34) from xs_istore_n hΓ dX5_closestPair_33 (Nat.le_of_ble_eq_true rfl)) rfl ?_
      exact hL_34 _ _ _ e hp
  unfold F_X5_closestPair at e
  refine xw_ald (show xm_Imp g Γ 0 (xi_ald 0 1) from xs_aload_n hΓ dX5_closestPair_0) rfl ?_
  refine xw_ald (show xm_Imp g Γ 1 (xi_ald 0 2) from xs_aload_n hΓ dX5_closestPair_1) rfl ?_
  refine xw_mga (k := 1) (show xm_Imp g Γ 2 (xi_get 4 1 5) from xs_get hG hΓ (ci := 4) (kf := 1) rfl (Nat.le_of_ble_eq_true rfl) q2851 dX5_closestPair_2) (fun _ => rfl) ?_
  refine xw_psh (v := (.int (0))) (show xm_Imp g Γ 5 (xi_psh (.int (0)) 6) from xs_iconst hΓ dX5_closestPair_5 (by decide)) ?_
  refine xw_mial (k := 1) (j := 0) (v := (σ.2 1 0)) (show xm_Imp g Γ 6 (xi_ial 7) from xs_ial hG hΓ dX5_closestPair_6) hM (by decide) rfl rfl rfl ?_
  refine xw_psh (v := (.int (1))) (show xm_Imp g Γ 7 (xi_psh (.int (1)) 8) from xs_iconst hΓ dX5_closestPair_7 (by decide)) ?_
  refine xw_ic (show xm_Imp g Γ 8 (xi_ic (fun x y => x ≤ y) 15 11) from xs_icmp_le hΓ dX5_closestPair_8 (by decide)) (fun c => ?_) (fun c => ?_)
  · rw [if_pos c] at e
    refine xw_psh (v := (.int (0))) (show xm_Imp g Γ 15 (xi_psh (.int (0)) 16) from xs_iconst hΓ dX5_closestPair_15 (by decide)) ?_
    exact hB_16 _ _ _ e hp
  · rw [if_neg c] at e
    refine xw_psh (v := (.int (1))) (show xm_Imp g Γ 11 (xi_psh (.int (1)) 12) from xs_iconst hΓ dX5_closestPair_11 (by decide)) ?_
    refine xw_goto (show xm_Imp g Γ 12 (xi_goto 16) from xs_goto hΓ dX5_closestPair_12 (by decide)) ?_
    exact hB_16 _ _ _ e hp
noncomputable def B_X5_spreadOf_28 (l1 : Int32) (l2 : Int32) (σ : xM_S) : Option ((Int32 × Int32 × xM_S) ⊕ (Int32 × xM_S)) :=
 some (Sum.inl (l1, l2 + 1, σ))
noncomputable def D_X5_spreadOf_4  (s : Int32 × Int32 × xM_S) : Option ((Int32 × Int32 × xM_S) ⊕ (Int32 × xM_S)) :=
 (if (F_X5_sets s.2.2) ≤ s.2.1 then
 xl_o (xo_b (F_X5_powerOf s.1) (fun v1 =>
 some (((s.2.2.2 1 0) - v1, s.2.2)))) else
 xo_b (F_X5_takesElement s.2.1 s.2.2) (fun v2 =>
 B_X5_spreadOf_28 (if (v2.1 6) = 0 then s.1 + 1 else s.1) s.2.1 v2))
noncomputable def L_X5_spreadOf_4  (s : Int32 × Int32 × xM_S) : Option (Int32 × xM_S) := xl_loop (D_X5_spreadOf_4 ) s
noncomputable def F_X5_spreadOf (σ : xM_S) : Option (Int32 × xM_S) :=
 L_X5_spreadOf_4 (0, 0, σ)
set_option maxHeartbeats 4000000 in
theorem K_X5_spreadOf {g : xm_G} (hG : xm_Gw g) {h0 : xm_H} {m : Nat} {ad : Nat → Nat} (hM : xM_ok h0 m ad) (hB : xk_B g h0)  (σ : xM_S) {o : Int32 × xM_S} (e : F_X5_spreadOf σ = some o) {Q : xm_P} {X : xm_X} (hQ : Q (some (.int o.1)) (xMp h0 m ad o.2)) : xm_Run g M_X5_spreadOf 6 [.ref m] (xMp h0 m ad σ) 0 0 Q X := by
  refine xm_Run.of pn_StringTableauModel (Nat.le_of_ble_eq_true rfl) (fun Γ hΓ => ?_)
  obtain ⟨P0, hP0, hp⟩ : ∃ P : Int32 × xM_S → Prop, (∀ o, P o → Q (some (.int o.1)) (xMp h0 m ad o.2)) ∧ P o := ⟨fun o => Q (some (.int o.1)) (xMp h0 m ad o.2), fun _ h => h, hQ⟩
  clear hQ
  show xm_W g Γ 0 [some (.ref m), none, none] [] (xMp h0 m ad σ) 0 0
  have hL_4 : ∀  (s : Int32 × Int32 × xM_S) (o : Int32 × xM_S), L_X5_spreadOf_4  s = some o → P0 o → xm_W g Γ 4 [some (.ref m), some (.int s.1), some (.int s.2.1)] [] (xMp h0 m ad s.2.2) 0 0 := by
    skip
    refine xl_rule (WS := fun s : Int32 × Int32 × xM_S => xm_W g Γ 4 [some (.ref m), some (.int s.1), some (.int s.2.1)] [] (xMp h0 m ad s.2.2) 0 0) ?_
    intro s o e hp
    obtain ⟨P1, hP1, hp⟩ : ∃ P : (Int32 × Int32 × xM_S) ⊕ (Int32 × xM_S) → Prop, (∀ o, P o → xl_P (fun s : Int32 × Int32 × xM_S => xm_W g Γ 4 [some (.ref m), some (.int s.1), some (.int s.2.1)] [] (xMp h0 m ad s.2.2) 0 0) P0 o) ∧ P o := ⟨_, fun _ h => h, hp⟩
    have hB_28 : ∀ (l1 : Int32) (l2 : Int32) (σ : xM_S) (o : (Int32 × Int32 × xM_S) ⊕ (Int32 × xM_S)), B_X5_spreadOf_28 l1 l2 σ = some o → P1 o → xm_W g Γ 28 [some (.ref m), some (.int l1), some (.int l2)] [] (xMp h0 m ad σ) 0 0 := by
      intro l1 l2 σ o e hp
      unfold B_X5_spreadOf_28 at e
      refine xw_inc (v := (1)) (ls' := [some (.ref m), some (.int l1), some (.int (l2 + 1))]) (show xm_Imp g Γ 28 (xi_inc 2 (1) 31) from xs_iinc hΓ dX5_spreadOf_28 (by decide) (Nat.le_of_ble_eq_true rfl)) rfl rfl ?_
      refine xw_goto (show xm_Imp g Γ 31 (xi_goto 4) from xs_goto hΓ dX5_spreadOf_31 (by decide)) ?_
      have hq := xl_P_inl (hP1 _ (xl_fin e hp)); exact hq
    unfold D_X5_spreadOf_4 at e
    refine xw_ild (show xm_Imp g Γ 4 (xi_ild 2 5) from xs_iload_n hΓ dX5_spreadOf_4) rfl ?_
    refine xw_ald (show xm_Imp g Γ 5 (xi_ald 0 6) from xs_aload_n hΓ dX5_spreadOf_5) rfl ?_
    refine xw_mv0 (show xm_Imp g Γ 6 (xi_vir g 4 M_X5_sets 1 0 9) from xs_invV hG hΓ k_X5_sets rfl (ci := 4) rfl q3073 q3075 qs61 dX5_spreadOf_6) rfl (fun Q X hQ => K_X5_sets hG hM hB s.2.2 rfl hQ) ?_
    refine xw_ic (show xm_Imp g Γ 9 (xi_ic (fun x y => y ≤ x) 34 12) from xs_icmp_ge hΓ dX5_spreadOf_9 (by decide)) (fun c => ?_) (fun c => ?_)
    · rw [if_pos c] at e
      obtain ⟨_, e, hp⟩ := xl_o_s e (hP1 _ hp)
      refine xw_ald (show xm_Imp g Γ 34 (xi_ald 0 35) from xs_aload_n hΓ dX5_spreadOf_34) rfl ?_
      refine xw_mga (k := 1) (show xm_Imp g Γ 35 (xi_get 4 1 38) from xs_get hG hΓ (ci := 4) (kf := 1) rfl (Nat.le_of_ble_eq_true rfl) q2851 dX5_spreadOf_35) (fun _ => rfl) ?_
      refine xw_psh (v := (.int (0))) (show xm_Imp g Γ 38 (xi_psh (.int (0)) 39) from xs_iconst hΓ dX5_spreadOf_38 (by decide)) ?_
      refine xw_mial (k := 1) (j := 0) (v := (s.2.2.2 1 0)) (show xm_Imp g Γ 39 (xi_ial 40) from xs_ial hG hΓ dX5_spreadOf_39) hM (by decide) rfl rfl rfl ?_
      refine xw_ild (show xm_Imp g Γ 40 (xi_ild 1 41) from xs_iload_n hΓ dX5_spreadOf_40) rfl ?_
      obtain ⟨v1, e1, e⟩ := xo_b_s e
      refine xw_sv1 (show xm_Imp g Γ 41 (xi_inv g M_X5_powerOf 1 1 44) from xs_invS hG hΓ k_X5_powerOf rfl q3397 q3398 dX5_spreadOf_41) rfl (fun Q X hQ => K_X5_powerOf hG s.1 e1 hQ) ?_
      refine xw_ii (show xm_Imp g Γ 44 (xi_ii (fun x y => x - y) 45) from xs_isub hΓ dX5_spreadOf_44) ?_
      exact xw_iret (show xm_Imp g Γ 45 (xi_iret .int _) from xs_ireturn hΓ rfl dX5_spreadOf_45) (xn_int _) (hP0 _ (xl_fin e hp))
    · rw [if_neg c] at e
      refine xw_ald (show xm_Imp g Γ 12 (xi_ald 0 13) from xs_aload_n hΓ dX5_spreadOf_12) rfl ?_
      refine xw_ild (show xm_Imp g Γ 13 (xi_ild 2 14) from xs_iload_n hΓ dX5_spreadOf_13) rfl ?_
      obtain ⟨v2, e1, e⟩ := xo_b_s e
      refine xw_mu1 (show xm_Imp g Γ 14 (xi_vir g 4 M_X5_takesElement 5 1 17) from xs_invV hG hΓ k_X5_takesElement rfl (ci := 4) rfl q3097 q3099 qs66 dX5_spreadOf_14) rfl (fun Q X hQ => K_X5_takesElement hG hM hB s.2.1 s.2.2 e1 hQ) ?_
      refine xw_ald (show xm_Imp g Γ 17 (xi_ald 0 18) from xs_aload_n hΓ dX5_spreadOf_17) rfl ?_
      refine xw_mgi (v := (v2.1 6)) (show xm_Imp g Γ 18 (xi_get 4 6 21) from xs_get hG hΓ (ci := 4) (kf := 6) rfl (Nat.le_of_ble_eq_true rfl) q2856 dX5_spreadOf_18) (fun _ => rfl) rfl ?_
      refine xw_if (show xm_Imp g Γ 21 (xi_if (fun x => x = 0) 24 28) from xs_if_ne hΓ dX5_spreadOf_21 (by decide)) (fun c => ?_) (fun c => ?_)
      · rw [if_pos c] at e
        refine xw_ild (show xm_Imp g Γ 24 (xi_ild 1 25) from xs_iload_n hΓ dX5_spreadOf_24) rfl ?_
        refine xw_psh (v := (.int (1))) (show xm_Imp g Γ 25 (xi_psh (.int (1)) 26) from xs_iconst hΓ dX5_spreadOf_25 (by decide)) ?_
        refine xw_ii (show xm_Imp g Γ 26 (xi_ii (fun x y => x + y) 27) from xs_iadd hΓ dX5_spreadOf_26) ?_
        refine xw_ist (ls' := [some (.ref m), some (.int (s.1 + 1)), some (.int s.2.1)]) (show xm_Imp g Γ 27 (xi_ist 1 28) from xs_istore_n hΓ dX5_spreadOf_27 (Nat.le_of_ble_eq_true rfl)) rfl ?_
        exact hB_28 _ _ _ _ e hp
      · rw [if_neg c] at e
        exact hB_28 _ _ _ _ e hp
  unfold F_X5_spreadOf at e
  refine xw_psh (v := (.int (0))) (show xm_Imp g Γ 0 (xi_psh (.int (0)) 1) from xs_iconst hΓ dX5_spreadOf_0 (by decide)) ?_
  refine xw_ist (ls' := [some (.ref m), some (.int 0), none]) (show xm_Imp g Γ 1 (xi_ist 1 2) from xs_istore_n hΓ dX5_spreadOf_1 (Nat.le_of_ble_eq_true rfl)) rfl ?_
  refine xw_psh (v := (.int (0))) (show xm_Imp g Γ 2 (xi_psh (.int (0)) 3) from xs_iconst hΓ dX5_spreadOf_2 (by decide)) ?_
  refine xw_ist (ls' := [some (.ref m), some (.int 0), some (.int 0)]) (show xm_Imp g Γ 3 (xi_ist 2 4) from xs_istore_n hΓ dX5_spreadOf_3 (Nat.le_of_ble_eq_true rfl)) rfl ?_
  exact hL_4 _ _ e hp
noncomputable def F_X5_spread (σ : xM_S) : Option (Int32 × xM_S) :=
 xo_b (F_X5_spreadOf (xM_f σ 0 0)) (fun v1 =>
 some ((v1.1, v1.2)))
set_option maxHeartbeats 4000000 in
theorem K_X5_spread {g : xm_G} (hG : xm_Gw g) {h0 : xm_H} {m : Nat} {ad : Nat → Nat} (hM : xM_ok h0 m ad) (hB : xk_B g h0)  (σ : xM_S) {o : Int32 × xM_S} (e : F_X5_spread σ = some o) {Q : xm_P} {X : xm_X} (hQ : Q (some (.int o.1)) (xMp h0 m ad o.2)) : xm_Run g M_X5_spread 7 [.ref m] (xMp h0 m ad σ) 0 0 Q X := by
  refine xm_Run.of pn_StringTableauModel (Nat.le_of_ble_eq_true rfl) (fun Γ hΓ => ?_)
  obtain ⟨P0, hP0, hp⟩ : ∃ P : Int32 × xM_S → Prop, (∀ o, P o → Q (some (.int o.1)) (xMp h0 m ad o.2)) ∧ P o := ⟨fun o => Q (some (.int o.1)) (xMp h0 m ad o.2), fun _ h => h, hQ⟩
  clear hQ
  show xm_W g Γ 0 [some (.ref m)] [] (xMp h0 m ad σ) 0 0
  unfold F_X5_spread at e
  refine xw_ald (show xm_Imp g Γ 0 (xi_ald 0 1) from xs_aload_n hΓ dX5_spread_0) rfl ?_
  refine xw_psh (v := (.int (0))) (show xm_Imp g Γ 1 (xi_psh (.int (0)) 2) from xs_iconst hΓ dX5_spread_1 (by decide)) ?_
  refine xw_mpi (show xm_Imp g Γ 2 (xi_put 4 0 (.int) 5) from xs_put hG hΓ (ci := 4) (kf := 0) rfl (Nat.le_of_ble_eq_true rfl) rfl (by decide +kernel) q2850 dX5_spread_2) (fun _ _ => rfl) ⟨rfl, rfl⟩ ?_
  refine xw_ald (show xm_Imp g Γ 5 (xi_ald 0 6) from xs_aload_n hΓ dX5_spread_5) rfl ?_
  obtain ⟨v1, e1, e⟩ := xo_b_s e
  refine xw_mv0 (show xm_Imp g Γ 6 (xi_vir g 4 M_X5_spreadOf 6 0 9) from xs_invV hG hΓ k_X5_spreadOf rfl (ci := 4) rfl q3424 q3426 qs107 dX5_spread_6) rfl (fun Q X hQ => K_X5_spreadOf hG hM hB (xM_f σ 0 0) e1 hQ) ?_
  exact xw_iret (show xm_Imp g Γ 9 (xi_iret .int _) from xs_ireturn hΓ rfl dX5_spread_9) (xn_int _) (hP0 _ (xl_fin e hp))
noncomputable def B_X5_isPossible_42 (l1 : Int32) (l2 : Int32) (σ : xM_S) : Option ((Int32 × xM_S) ⊕ (Int32 × xM_S)) :=
 some (Sum.inl (l2 + 1, σ))
noncomputable def D_X5_isPossible_2 (l1 : Int32) (s : Int32 × xM_S) : Option ((Int32 × xM_S) ⊕ (Int32 × xM_S)) :=
 (if (F_X5_sets s.2) ≤ s.1 then
 xl_o (some ((1, s.2))) else
 xo_b (F_X5_takesElement s.1 s.2) (fun v1 =>
 (if (v1.1 6) = 0 then
 xo_b (F_X5_bits ((v1.1 7) &&& l1)) (fun v2 =>
 (if (v2 - v2 / 2 * 2) = (v1.1 8) then
 B_X5_isPossible_42 l1 s.1 v1 else
 xl_o (some ((0, v1))))) else
 B_X5_isPossible_42 l1 s.1 v1)))
noncomputable def L_X5_isPossible_2 (l1 : Int32) (s : Int32 × xM_S) : Option (Int32 × xM_S) := xl_loop (D_X5_isPossible_2 l1) s
noncomputable def F_X5_isPossible (p1 : Int32) (σ : xM_S) : Option (Int32 × xM_S) :=
 L_X5_isPossible_2 p1 (0, σ)
set_option maxHeartbeats 4000000 in
theorem K_X5_isPossible {g : xm_G} (hG : xm_Gw g) {h0 : xm_H} {m : Nat} {ad : Nat → Nat} (hM : xM_ok h0 m ad) (hB : xk_B g h0) (p1 : Int32) (σ : xM_S) {o : Int32 × xM_S} (e : F_X5_isPossible p1 σ = some o) {Q : xm_P} {X : xm_X} (hQ : Q (some (.int o.1)) (xMp h0 m ad o.2)) : xm_Run g M_X5_isPossible 6 [.ref m, .int p1] (xMp h0 m ad σ) 0 0 Q X := by
  refine xm_Run.of pn_StringTableauModel (Nat.le_of_ble_eq_true rfl) (fun Γ hΓ => ?_)
  obtain ⟨P0, hP0, hp⟩ : ∃ P : Int32 × xM_S → Prop, (∀ o, P o → Q (some (.int o.1)) (xMp h0 m ad o.2)) ∧ P o := ⟨fun o => Q (some (.int o.1)) (xMp h0 m ad o.2), fun _ h => h, hQ⟩
  clear hQ
  show xm_W g Γ 0 [some (.ref m), some (.int p1), none] [] (xMp h0 m ad σ) 0 0
  have hL_2 : ∀ (l1 : Int32) (s : Int32 × xM_S) (o : Int32 × xM_S), L_X5_isPossible_2 l1 s = some o → P0 o → xm_W g Γ 2 [some (.ref m), some (.int l1), some (.int s.1)] [] (xMp h0 m ad s.2) 0 0 := by
    intro l1
    refine xl_rule (WS := fun s : Int32 × xM_S => xm_W g Γ 2 [some (.ref m), some (.int l1), some (.int s.1)] [] (xMp h0 m ad s.2) 0 0) ?_
    intro s o e hp
    obtain ⟨P1, hP1, hp⟩ : ∃ P : (Int32 × xM_S) ⊕ (Int32 × xM_S) → Prop, (∀ o, P o → xl_P (fun s : Int32 × xM_S => xm_W g Γ 2 [some (.ref m), some (.int l1), some (.int s.1)] [] (xMp h0 m ad s.2) 0 0) P0 o) ∧ P o := ⟨_, fun _ h => h, hp⟩
    have hB_42 : ∀ (l2 : Int32) (σ : xM_S) (o : (Int32 × xM_S) ⊕ (Int32 × xM_S)), B_X5_isPossible_42 l1 l2 σ = some o → P1 o → xm_W g Γ 42 [some (.ref m), some (.int l1), some (.int l2)] [] (xMp h0 m ad σ) 0 0 := by
      intro l2 σ o e hp
      unfold B_X5_isPossible_42 at e
      refine xw_inc (v := (1)) (ls' := [some (.ref m), some (.int l1), some (.int (l2 + 1))]) (show xm_Imp g Γ 42 (xi_inc 2 (1) 45) from xs_iinc hΓ dX5_isPossible_42 (by decide) (Nat.le_of_ble_eq_true rfl)) rfl rfl ?_
      refine xw_goto (show xm_Imp g Γ 45 (xi_goto 2) from xs_goto hΓ dX5_isPossible_45 (by decide)) ?_
      have hq := xl_P_inl (hP1 _ (xl_fin e hp)); exact hq
    unfold D_X5_isPossible_2 at e
    refine xw_ild (show xm_Imp g Γ 2 (xi_ild 2 3) from xs_iload_n hΓ dX5_isPossible_2) rfl ?_
    refine xw_ald (show xm_Imp g Γ 3 (xi_ald 0 4) from xs_aload_n hΓ dX5_isPossible_3) rfl ?_
    refine xw_mv0 (show xm_Imp g Γ 4 (xi_vir g 4 M_X5_sets 1 0 7) from xs_invV hG hΓ k_X5_sets rfl (ci := 4) rfl q3073 q3075 qs61 dX5_isPossible_4) rfl (fun Q X hQ => K_X5_sets hG hM hB s.2 rfl hQ) ?_
    refine xw_ic (show xm_Imp g Γ 7 (xi_ic (fun x y => y ≤ x) 48 10) from xs_icmp_ge hΓ dX5_isPossible_7 (by decide)) (fun c => ?_) (fun c => ?_)
    · rw [if_pos c] at e
      obtain ⟨_, e, hp⟩ := xl_o_s e (hP1 _ hp)
      refine xw_psh (v := (.int (1))) (show xm_Imp g Γ 48 (xi_psh (.int (1)) 49) from xs_iconst hΓ dX5_isPossible_48 (by decide)) ?_
      exact xw_iret (show xm_Imp g Γ 49 (xi_iret .boolean _) from xs_ireturn hΓ rfl dX5_isPossible_49) rfl (hP0 _ (xl_fin e hp))
    · rw [if_neg c] at e
      refine xw_ald (show xm_Imp g Γ 10 (xi_ald 0 11) from xs_aload_n hΓ dX5_isPossible_10) rfl ?_
      refine xw_ild (show xm_Imp g Γ 11 (xi_ild 2 12) from xs_iload_n hΓ dX5_isPossible_11) rfl ?_
      obtain ⟨v1, e1, e⟩ := xo_b_s e
      refine xw_mu1 (show xm_Imp g Γ 12 (xi_vir g 4 M_X5_takesElement 5 1 15) from xs_invV hG hΓ k_X5_takesElement rfl (ci := 4) rfl q3097 q3099 qs66 dX5_isPossible_12) rfl (fun Q X hQ => K_X5_takesElement hG hM hB s.1 s.2 e1 hQ) ?_
      refine xw_ald (show xm_Imp g Γ 15 (xi_ald 0 16) from xs_aload_n hΓ dX5_isPossible_15) rfl ?_
      refine xw_mgi (v := (v1.1 6)) (show xm_Imp g Γ 16 (xi_get 4 6 19) from xs_get hG hΓ (ci := 4) (kf := 6) rfl (Nat.le_of_ble_eq_true rfl) q2856 dX5_isPossible_16) (fun _ => rfl) rfl ?_
      refine xw_if (show xm_Imp g Γ 19 (xi_if (fun x => x = 0) 22 42) from xs_if_ne hΓ dX5_isPossible_19 (by decide)) (fun c => ?_) (fun c => ?_)
      · rw [if_pos c] at e
        refine xw_ald (show xm_Imp g Γ 22 (xi_ald 0 23) from xs_aload_n hΓ dX5_isPossible_22) rfl ?_
        refine xw_mgi (v := (v1.1 7)) (show xm_Imp g Γ 23 (xi_get 4 7 26) from xs_get hG hΓ (ci := 4) (kf := 7) rfl (Nat.le_of_ble_eq_true rfl) q2857 dX5_isPossible_23) (fun _ => rfl) rfl ?_
        refine xw_ild (show xm_Imp g Γ 26 (xi_ild 1 27) from xs_iload_n hΓ dX5_isPossible_26) rfl ?_
        refine xw_ii (show xm_Imp g Γ 27 (xi_ii (fun x y => x &&& y) 28) from xs_iand hΓ dX5_isPossible_27) ?_
        obtain ⟨v2, e1, e⟩ := xo_b_s e
        refine xw_sv1 (show xm_Imp g Γ 28 (xi_inv g M_X5_bits 1 1 31) from xs_invS hG hΓ k_X5_bits rfl q3349 q3350 dX5_isPossible_28) rfl (fun Q X hQ => K_X5_bits hG ((v1.1 7) &&& l1) e1 hQ) ?_
        refine xw_psh (v := (.int (2))) (show xm_Imp g Γ 31 (xi_psh (.int (2)) 32) from xs_iconst hΓ dX5_isPossible_31 (by decide)) ?_
        refine xw_id (show xm_Imp g Γ 32 (xi_id (fun x y => x - x / y * y) 33) from xs_irem hΓ dX5_isPossible_32) (by decide) ?_
        refine xw_ald (show xm_Imp g Γ 33 (xi_ald 0 34) from xs_aload_n hΓ dX5_isPossible_33) rfl ?_
        refine xw_mgi (v := (v1.1 8)) (show xm_Imp g Γ 34 (xi_get 4 8 37) from xs_get hG hΓ (ci := 4) (kf := 8) rfl (Nat.le_of_ble_eq_true rfl) q2858 dX5_isPossible_34) (fun _ => rfl) rfl ?_
        refine xw_ic (show xm_Imp g Γ 37 (xi_ic (fun x y => x = y) 42 40) from xs_icmp_eq hΓ dX5_isPossible_37 (by decide)) (fun c => ?_) (fun c => ?_)
        · rw [if_pos c] at e
          exact hB_42 _ _ _ e hp
        · rw [if_neg c] at e
          obtain ⟨_, e, hp⟩ := xl_o_s e (hP1 _ hp)
          refine xw_psh (v := (.int (0))) (show xm_Imp g Γ 40 (xi_psh (.int (0)) 41) from xs_iconst hΓ dX5_isPossible_40 (by decide)) ?_
          exact xw_iret (show xm_Imp g Γ 41 (xi_iret .boolean _) from xs_ireturn hΓ rfl dX5_isPossible_41) rfl (hP0 _ (xl_fin e hp))
      · rw [if_neg c] at e
        exact hB_42 _ _ _ e hp
  unfold F_X5_isPossible at e
  refine xw_psh (v := (.int (0))) (show xm_Imp g Γ 0 (xi_psh (.int (0)) 1) from xs_iconst hΓ dX5_isPossible_0 (by decide)) ?_
  refine xw_ist (ls' := [some (.ref m), some (.int p1), some (.int 0)]) (show xm_Imp g Γ 1 (xi_ist 2 2) from xs_istore_n hΓ dX5_isPossible_1 (Nat.le_of_ble_eq_true rfl)) rfl ?_
  exact hL_2 _ _ _ e hp
noncomputable def B_X5_probability_32 (σ : xM_S) : Option (UInt64 × xM_S) :=
 some ((FP.dconst0, σ))
noncomputable def F_X5_probability (p1 : Int32) (σ : xM_S) : Option (UInt64 × xM_S) :=
 xo_b (F_X5_is (F_X5_isSet p1 σ) σ) (fun v1 =>
 (if v1.1 = 0 then
 B_X5_probability_32 v1.2 else
 xo_b (F_X5_isPossible p1 v1.2) (fun v2 =>
 (if v2.1 = 0 then
 B_X5_probability_32 v2.2 else
 xo_b (F_X5_spreadOf v2.2) (fun v3 =>
 xo_b (xo_g (vf_n64 (FP.ddiv FP.dconst1 (FP.i2d (1 <<< (v3.1 &&& 31)))))) (fun u4 =>
 some ((FP.ddiv FP.dconst1 (FP.i2d (1 <<< (v3.1 &&& 31))), v3.2))))))))
set_option maxHeartbeats 4000000 in
theorem K_X5_probability {g : xm_G} (hG : xm_Gw g) {h0 : xm_H} {m : Nat} {ad : Nat → Nat} (hM : xM_ok h0 m ad) (hB : xk_B g h0) (p1 : Int32) (σ : xM_S) {o : UInt64 × xM_S} (e : F_X5_probability p1 σ = some o) {Q : xm_P} {X : xm_X} (hQ : Q (some (.double o.1)) (xMp h0 m ad o.2)) : xm_Run g M_X5_probability 7 [.ref m, .int p1] (xMp h0 m ad σ) 0 0 Q X := by
  refine xm_Run.of pn_StringTableauModel (Nat.le_of_ble_eq_true rfl) (fun Γ hΓ => ?_)
  obtain ⟨P0, hP0, hp⟩ : ∃ P : UInt64 × xM_S → Prop, (∀ o, P o → Q (some (.double o.1)) (xMp h0 m ad o.2)) ∧ P o := ⟨fun o => Q (some (.double o.1)) (xMp h0 m ad o.2), fun _ h => h, hQ⟩
  clear hQ
  show xm_W g Γ 0 [some (.ref m), some (.int p1)] [] (xMp h0 m ad σ) 0 0
  have hB_32 : ∀ (σ : xM_S) (o : UInt64 × xM_S), B_X5_probability_32 σ = some o → P0 o → xm_W g Γ 32 [none, none] [] (xMp h0 m ad σ) 0 0 := by
    intro σ o e hp
    unfold B_X5_probability_32 at e
    refine xw_psh (v := (.double FP.dconst0)) (show xm_Imp g Γ 32 (xi_psh (.double FP.dconst0) 33) from xs_dconst0 hΓ dX5_probability_32) ?_
    exact xw_dret (show xm_Imp g Γ 33 (xi_dret _) from xs_dreturn hΓ rfl dX5_probability_33) (hP0 _ (xl_fin e hp))
  unfold F_X5_probability at e
  refine xw_ald (show xm_Imp g Γ 0 (xi_ald 0 1) from xs_aload_n hΓ dX5_probability_0) rfl ?_
  refine xw_ald (show xm_Imp g Γ 1 (xi_ald 0 2) from xs_aload_n hΓ dX5_probability_1) rfl ?_
  refine xw_ild (show xm_Imp g Γ 2 (xi_ild 1 3) from xs_iload_n hΓ dX5_probability_2) rfl ?_
  refine xw_mv1 (show xm_Imp g Γ 3 (xi_vir g 4 M_X5_isSet 2 1 6) from xs_invV hG hΓ k_X5_isSet rfl (ci := 4) rfl q3333 q3335 qs98 dX5_probability_3) rfl (fun Q X hQ => K_X5_isSet hG hM hB p1 σ rfl hQ) ?_
  obtain ⟨v1, e1, e⟩ := xo_b_s e
  refine xw_mv1 (show xm_Imp g Γ 6 (xi_vir g 4 M_X5_is 1 1 9) from xs_invV hG hΓ k_X5_is rfl (ci := 4) rfl q2986 q2988 qs46 dX5_probability_6) rfl (fun Q X hQ => K_X5_is hG hM hB (F_X5_isSet p1 σ) σ e1 hQ) ?_
  refine xw_if (show xm_Imp g Γ 9 (xi_if (fun x => x = 0) 32 12) from xs_if_eq hΓ dX5_probability_9 (by decide)) (fun c => ?_) (fun c => ?_)
  · rw [if_pos c] at e
    exact xm_lx (hB_32 _ _ e hp) (trivial)
  · rw [if_neg c] at e
    refine xw_ald (show xm_Imp g Γ 12 (xi_ald 0 13) from xs_aload_n hΓ dX5_probability_12) rfl ?_
    refine xw_ild (show xm_Imp g Γ 13 (xi_ild 1 14) from xs_iload_n hΓ dX5_probability_13) rfl ?_
    obtain ⟨v2, e1, e⟩ := xo_b_s e
    refine xw_mv1 (show xm_Imp g Γ 14 (xi_vir g 4 M_X5_isPossible 6 1 17) from xs_invV hG hΓ k_X5_isPossible rfl (ci := 4) rfl q3432 q3434 qs108 dX5_probability_14) rfl (fun Q X hQ => K_X5_isPossible hG hM hB p1 v1.2 e1 hQ) ?_
    refine xw_if (show xm_Imp g Γ 17 (xi_if (fun x => x = 0) 32 20) from xs_if_eq hΓ dX5_probability_17 (by decide)) (fun c => ?_) (fun c => ?_)
    · rw [if_pos c] at e
      exact xm_lx (hB_32 _ _ e hp) (trivial)
    · rw [if_neg c] at e
      refine xw_psh (v := (.double FP.dconst1)) (show xm_Imp g Γ 20 (xi_psh (.double FP.dconst1) 21) from xs_dconst1 hΓ dX5_probability_20) ?_
      refine xw_psh (v := (.int (1))) (show xm_Imp g Γ 21 (xi_psh (.int (1)) 22) from xs_iconst hΓ dX5_probability_21 (by decide)) ?_
      refine xw_ald (show xm_Imp g Γ 22 (xi_ald 0 23) from xs_aload_n hΓ dX5_probability_22) rfl ?_
      obtain ⟨v3, e1, e⟩ := xo_b_s e
      refine xw_mv0 (show xm_Imp g Γ 23 (xi_vir g 4 M_X5_spreadOf 6 0 26) from xs_invV hG hΓ k_X5_spreadOf rfl (ci := 4) rfl q3424 q3426 qs107 dX5_probability_23) rfl (fun Q X hQ => K_X5_spreadOf hG hM hB v2.2 e1 hQ) ?_
      refine xw_ii (show xm_Imp g Γ 26 (xi_ii (fun x y => x <<< (y &&& 31)) 27) from xs_ishl hΓ dX5_probability_26) ?_
      refine xw_i2d (show xm_Imp g Γ 27 (xi_i2d 28) from xs_i2d hΓ dX5_probability_27) ?_
      obtain ⟨u4, e1, e⟩ := xo_b_s e
      refine xw_ddiv (show xm_Imp g Γ 28 (xi_ddiv 29) from xs_ddiv hΓ dX5_probability_28) (xo_g_s e1) ?_
      refine xw_goto (show xm_Imp g Γ 29 (xi_goto 33) from xs_goto hΓ dX5_probability_29 (by decide)) ?_
      exact xw_dret (show xm_Imp g Γ 33 (xi_dret _) from xs_dreturn hΓ rfl dX5_probability_33) (hP0 _ (xl_fin e hp))
noncomputable def B_X5_possible_42 (l2 : Int32) (l3 : Int32) (σ : xM_S) : Option ((Int32 × Int32 × xM_S) ⊕ (Int32 × xM_S)) :=
 some (Sum.inl (l2, l3 + 1, σ))
noncomputable def D_X5_possible_9  (s : Int32 × Int32 × xM_S) : Option ((Int32 × Int32 × xM_S) ⊕ (Int32 × xM_S)) :=
 (if (F_X5_sets s.2.2) ≤ s.2.1 then
 xl_o (some (((-1), s.2.2))) else
 (if s.1 < 0 then
 xl_o (some (((-1), s.2.2))) else
 xo_b (F_X5_isPossible s.2.1 s.2.2) (fun v1 =>
 (if v1.1 = 0 then
 B_X5_possible_42 s.1 s.2.1 v1.2 else
 (if s.1 = 0 then
 xl_o (some ((s.2.1, v1.2))) else
 B_X5_possible_42 (s.1 - 1) s.2.1 v1.2)))))
noncomputable def L_X5_possible_9  (s : Int32 × Int32 × xM_S) : Option (Int32 × xM_S) := xl_loop (D_X5_possible_9 ) s
noncomputable def F_X5_possible (p1 : Int32) (σ : xM_S) : Option (Int32 × xM_S) :=
 L_X5_possible_9 (p1, 0, (xM_f σ 0 0))
set_option maxHeartbeats 4000000 in
theorem K_X5_possible {g : xm_G} (hG : xm_Gw g) {h0 : xm_H} {m : Nat} {ad : Nat → Nat} (hM : xM_ok h0 m ad) (hB : xk_B g h0) (p1 : Int32) (σ : xM_S) {o : Int32 × xM_S} (e : F_X5_possible p1 σ = some o) {Q : xm_P} {X : xm_X} (hQ : Q (some (.int o.1)) (xMp h0 m ad o.2)) : xm_Run g M_X5_possible 7 [.ref m, .int p1] (xMp h0 m ad σ) 0 0 Q X := by
  refine xm_Run.of pn_StringTableauModel (Nat.le_of_ble_eq_true rfl) (fun Γ hΓ => ?_)
  obtain ⟨P0, hP0, hp⟩ : ∃ P : Int32 × xM_S → Prop, (∀ o, P o → Q (some (.int o.1)) (xMp h0 m ad o.2)) ∧ P o := ⟨fun o => Q (some (.int o.1)) (xMp h0 m ad o.2), fun _ h => h, hQ⟩
  clear hQ
  show xm_W g Γ 0 [some (.ref m), some (.int p1), none, none] [] (xMp h0 m ad σ) 0 0
  have hL_9 : ∀  (s : Int32 × Int32 × xM_S) (o : Int32 × xM_S), L_X5_possible_9  s = some o → P0 o → xm_W g Γ 9 [some (.ref m), none, some (.int s.1), some (.int s.2.1)] [] (xMp h0 m ad s.2.2) 0 0 := by
    skip
    refine xl_rule (WS := fun s : Int32 × Int32 × xM_S => xm_W g Γ 9 [some (.ref m), none, some (.int s.1), some (.int s.2.1)] [] (xMp h0 m ad s.2.2) 0 0) ?_
    intro s o e hp
    obtain ⟨P1, hP1, hp⟩ : ∃ P : (Int32 × Int32 × xM_S) ⊕ (Int32 × xM_S) → Prop, (∀ o, P o → xl_P (fun s : Int32 × Int32 × xM_S => xm_W g Γ 9 [some (.ref m), none, some (.int s.1), some (.int s.2.1)] [] (xMp h0 m ad s.2.2) 0 0) P0 o) ∧ P o := ⟨_, fun _ h => h, hp⟩
    have hB_42 : ∀ (l2 : Int32) (l3 : Int32) (σ : xM_S) (o : (Int32 × Int32 × xM_S) ⊕ (Int32 × xM_S)), B_X5_possible_42 l2 l3 σ = some o → P1 o → xm_W g Γ 42 [some (.ref m), none, some (.int l2), some (.int l3)] [] (xMp h0 m ad σ) 0 0 := by
      intro l2 l3 σ o e hp
      unfold B_X5_possible_42 at e
      refine xw_inc (v := (1)) (ls' := [some (.ref m), none, some (.int l2), some (.int (l3 + 1))]) (show xm_Imp g Γ 42 (xi_inc 3 (1) 45) from xs_iinc hΓ dX5_possible_42 (by decide) (Nat.le_of_ble_eq_true rfl)) rfl rfl ?_
      refine xw_goto (show xm_Imp g Γ 45 (xi_goto 9) from xs_goto hΓ dX5_possible_45 (by decide)) ?_
      have hq := xl_P_inl (hP1 _ (xl_fin e hp)); exact hq
    unfold D_X5_possible_9 at e
    refine xw_ild (show xm_Imp g Γ 9 (xi_ild 3 10) from xs_iload_n hΓ dX5_possible_9) rfl ?_
    refine xw_ald (show xm_Imp g Γ 10 (xi_ald 0 11) from xs_aload_n hΓ dX5_possible_10) rfl ?_
    refine xw_mv0 (show xm_Imp g Γ 11 (xi_vir g 4 M_X5_sets 1 0 14) from xs_invV hG hΓ k_X5_sets rfl (ci := 4) rfl q3073 q3075 qs61 dX5_possible_11) rfl (fun Q X hQ => K_X5_sets hG hM hB s.2.2 rfl hQ) ?_
    refine xw_ic (show xm_Imp g Γ 14 (xi_ic (fun x y => y ≤ x) 48 17) from xs_icmp_ge hΓ dX5_possible_14 (by decide)) (fun c => ?_) (fun c => ?_)
    · rw [if_pos c] at e
      obtain ⟨_, e, hp⟩ := xl_o_s e (hP1 _ hp)
      refine xw_psh (v := (.int (-1))) (show xm_Imp g Γ 48 (xi_psh (.int (-1)) 49) from xs_iconst hΓ dX5_possible_48 (by decide)) ?_
      exact xw_iret (show xm_Imp g Γ 49 (xi_iret .int _) from xs_ireturn hΓ rfl dX5_possible_49) (xn_int _) (hP0 _ (xl_fin e hp))
    · rw [if_neg c] at e
      refine xw_ild (show xm_Imp g Γ 17 (xi_ild 2 18) from xs_iload_n hΓ dX5_possible_17) rfl ?_
      refine xw_if (show xm_Imp g Γ 18 (xi_if (fun x => x < 0) 48 21) from xs_if_lt hΓ dX5_possible_18 (by decide)) (fun c => ?_) (fun c => ?_)
      · rw [if_pos c] at e
        obtain ⟨_, e, hp⟩ := xl_o_s e (hP1 _ hp)
        refine xw_psh (v := (.int (-1))) (show xm_Imp g Γ 48 (xi_psh (.int (-1)) 49) from xs_iconst hΓ dX5_possible_48 (by decide)) ?_
        exact xw_iret (show xm_Imp g Γ 49 (xi_iret .int _) from xs_ireturn hΓ rfl dX5_possible_49) (xn_int _) (hP0 _ (xl_fin e hp))
      · rw [if_neg c] at e
        refine xw_ald (show xm_Imp g Γ 21 (xi_ald 0 22) from xs_aload_n hΓ dX5_possible_21) rfl ?_
        refine xw_ild (show xm_Imp g Γ 22 (xi_ild 3 23) from xs_iload_n hΓ dX5_possible_22) rfl ?_
        obtain ⟨v1, e1, e⟩ := xo_b_s e
        refine xw_mv1 (show xm_Imp g Γ 23 (xi_vir g 4 M_X5_isPossible 6 1 26) from xs_invV hG hΓ k_X5_isPossible rfl (ci := 4) rfl q3432 q3434 qs108 dX5_possible_23) rfl (fun Q X hQ => K_X5_isPossible hG hM hB s.2.1 s.2.2 e1 hQ) ?_
        refine xw_if (show xm_Imp g Γ 26 (xi_if (fun x => x = 0) 29 32) from xs_if_ne hΓ dX5_possible_26 (by decide)) (fun c => ?_) (fun c => ?_)
        · rw [if_pos c] at e
          refine xw_goto (show xm_Imp g Γ 29 (xi_goto 42) from xs_goto hΓ dX5_possible_29 (by decide)) ?_
          exact hB_42 _ _ _ _ e hp
        · rw [if_neg c] at e
          refine xw_ild (show xm_Imp g Γ 32 (xi_ild 2 33) from xs_iload_n hΓ dX5_possible_32) rfl ?_
          refine xw_if (show xm_Imp g Γ 33 (xi_if (fun x => x = 0) 36 38) from xs_if_ne hΓ dX5_possible_33 (by decide)) (fun c => ?_) (fun c => ?_)
          · rw [if_pos c] at e
            obtain ⟨_, e, hp⟩ := xl_o_s e (hP1 _ hp)
            refine xw_ild (show xm_Imp g Γ 36 (xi_ild 3 37) from xs_iload_n hΓ dX5_possible_36) rfl ?_
            exact xw_iret (show xm_Imp g Γ 37 (xi_iret .int _) from xs_ireturn hΓ rfl dX5_possible_37) (xn_int _) (hP0 _ (xl_fin e hp))
          · rw [if_neg c] at e
            refine xw_ild (show xm_Imp g Γ 38 (xi_ild 2 39) from xs_iload_n hΓ dX5_possible_38) rfl ?_
            refine xw_psh (v := (.int (1))) (show xm_Imp g Γ 39 (xi_psh (.int (1)) 40) from xs_iconst hΓ dX5_possible_39 (by decide)) ?_
            refine xw_ii (show xm_Imp g Γ 40 (xi_ii (fun x y => x - y) 41) from xs_isub hΓ dX5_possible_40) ?_
            refine xw_ist (ls' := [some (.ref m), none, some (.int (s.1 - 1)), some (.int s.2.1)]) (show xm_Imp g Γ 41 (xi_ist 2 42) from xs_istore_n hΓ dX5_possible_41 (Nat.le_of_ble_eq_true rfl)) rfl ?_
            exact hB_42 _ _ _ _ e hp
  unfold F_X5_possible at e
  refine xw_ald (show xm_Imp g Γ 0 (xi_ald 0 1) from xs_aload_n hΓ dX5_possible_0) rfl ?_
  refine xw_psh (v := (.int (0))) (show xm_Imp g Γ 1 (xi_psh (.int (0)) 2) from xs_iconst hΓ dX5_possible_1 (by decide)) ?_
  refine xw_mpi (show xm_Imp g Γ 2 (xi_put 4 0 (.int) 5) from xs_put hG hΓ (ci := 4) (kf := 0) rfl (Nat.le_of_ble_eq_true rfl) rfl (by decide +kernel) q2850 dX5_possible_2) (fun _ _ => rfl) ⟨rfl, rfl⟩ ?_
  refine xw_ild (show xm_Imp g Γ 5 (xi_ild 1 6) from xs_iload_n hΓ dX5_possible_5) rfl ?_
  refine xw_ist (ls' := [some (.ref m), some (.int p1), some (.int p1), none]) (show xm_Imp g Γ 6 (xi_ist 2 7) from xs_istore_n hΓ dX5_possible_6 (Nat.le_of_ble_eq_true rfl)) rfl ?_
  refine xw_psh (v := (.int (0))) (show xm_Imp g Γ 7 (xi_psh (.int (0)) 8) from xs_iconst hΓ dX5_possible_7 (by decide)) ?_
  refine xw_ist (ls' := [some (.ref m), some (.int p1), some (.int p1), some (.int 0)]) (show xm_Imp g Γ 8 (xi_ist 3 9) from xs_istore_n hΓ dX5_possible_8 (Nat.le_of_ble_eq_true rfl)) rfl ?_
  exact xm_lx (hL_9 _ _ e hp) (And.intro rfl (And.intro rfl (And.intro rfl (trivial))))
def F_X5_isSlot (p1 : Int32) : Int32 :=
 (F_X5_isIn p1.toInt64 0 1)
set_option maxHeartbeats 4000000 in
theorem K_X5_isSlot {g : xm_G} (hG : xm_Gw g) {h0 : xm_H} {m : Nat} {ad : Nat → Nat} (hM : xM_ok h0 m ad) (hB : xk_B g h0) (p1 : Int32) (σ : xM_S) {o : Int32} (e : F_X5_isSlot p1 = o) {Q : xm_P} {X : xm_X} (hQ : Q (some (.int o)) (xMp h0 m ad σ)) : xm_Run g M_X5_isSlot 2 [.ref m, .int p1] (xMp h0 m ad σ) 0 0 Q X := by
  refine xm_Run.of pn_StringTableauModel (Nat.le_of_ble_eq_true rfl) (fun Γ hΓ => ?_)
  obtain ⟨P0, hP0, hp⟩ : ∃ P : Int32 → Prop, (∀ o, P o → Q (some (.int o)) (xMp h0 m ad σ)) ∧ P o := ⟨fun o => Q (some (.int o)) (xMp h0 m ad σ), fun _ h => h, hQ⟩
  clear hQ
  show xm_W g Γ 0 [some (.ref m), some (.int p1)] [] (xMp h0 m ad σ) 0 0
  unfold F_X5_isSlot at e
  refine xw_ild (show xm_Imp g Γ 0 (xi_ild 1 1) from xs_iload_n hΓ dX5_isSlot_0) rfl ?_
  refine xw_i2l (show xm_Imp g Γ 1 (xi_i2l 2) from xs_i2l hΓ dX5_isSlot_1) ?_
  refine xw_psh (v := (.long 0)) (show xm_Imp g Γ 2 (xi_psh (.long 0) 3) from xs_lconst hΓ dX5_isSlot_2 (by decide)) ?_
  refine xw_psh (v := (.long 1)) (show xm_Imp g Γ 3 (xi_psh (.long 1) 4) from xs_lconst hΓ dX5_isSlot_3 (by decide)) ?_
  refine xw_sv3 (show xm_Imp g Γ 4 (xi_inv g M_X5_isIn 1 3 7) from xs_invS hG hΓ k_X5_isIn rfl q2996 q2997 dX5_isSlot_4) rfl (fun Q X hQ => K_X5_isIn hG p1.toInt64 0 1 rfl hQ) ?_
  exact xw_iret (show xm_Imp g Γ 7 (xi_iret .boolean _) from xs_ireturn hΓ rfl dX5_isSlot_7) (b_X5_isIn p1.toInt64 0 1) (hP0 _ (xl_finV e hp))
theorem b_X5_isSlot (p1 : Int32) : narrow .boolean (.int (F_X5_isSlot p1)) = .int (F_X5_isSlot p1) := by
  unfold F_X5_isSlot
  (repeat' split) <;> first | with_reducible exact xb_n0 | with_reducible exact xb_n1 | with_reducible exact b_X5_isIn _ _ _
noncomputable def D_X5_keep_23 (l1 : Int32) (l2 : Int32) (s : Int32 × xM_S) : Option ((Int32 × xM_S) ⊕ (Int32 × xM_S)) :=
 (if 24 ≤ s.1 then
 xl_o (xo_b (xa_ix 2 l1) (fun j3 =>
 xo_b (xb_chk .boolean l2) (fun _ =>
 some ((l2, (xM_a s.2 37 j3 1)))))) else
 xo_b (xa_ix 530 (6 + s.1)) (fun j4 =>
 xo_b (xa_ix 48 ((24 * l1) + s.1)) (fun j5 =>
 some (Sum.inl (s.1 + 1, (xM_a s.2 36 j5 (s.2.2 1 j4)))))))
noncomputable def L_X5_keep_23 (l1 : Int32) (l2 : Int32) (s : Int32 × xM_S) : Option (Int32 × xM_S) := xl_loop (D_X5_keep_23 l1 l2) s
noncomputable def F_X5_keep (p1 : Int32) (σ : xM_S) : Option (Int32 × xM_S) :=
 xo_b (F_X5_is (F_X5_isSlot p1) σ) (fun v1 =>
 (if v1.1 = 0 then
 some ((0, v1.2)) else
 xo_b (xa_ix 2 p1) (fun j2 =>
 L_X5_keep_23 p1 (v1.2.2 37 j2) (0, v1.2))))
set_option maxHeartbeats 4000000 in
theorem K_X5_keep {g : xm_G} (hG : xm_Gw g) {h0 : xm_H} {m : Nat} {ad : Nat → Nat} (hM : xM_ok h0 m ad) (hB : xk_B g h0) (p1 : Int32) (σ : xM_S) {o : Int32 × xM_S} (e : F_X5_keep p1 σ = some o) {Q : xm_P} {X : xm_X} (hQ : Q (some (.int o.1)) (xMp h0 m ad o.2)) : xm_Run g M_X5_keep 3 [.ref m, .int p1] (xMp h0 m ad σ) 0 0 Q X := by
  refine xm_Run.of pn_StringTableauModel (Nat.le_of_ble_eq_true rfl) (fun Γ hΓ => ?_)
  obtain ⟨P0, hP0, hp⟩ : ∃ P : Int32 × xM_S → Prop, (∀ o, P o → Q (some (.int o.1)) (xMp h0 m ad o.2)) ∧ P o := ⟨fun o => Q (some (.int o.1)) (xMp h0 m ad o.2), fun _ h => h, hQ⟩
  clear hQ
  show xm_W g Γ 0 [some (.ref m), some (.int p1), none, none] [] (xMp h0 m ad σ) 0 0
  have hL_23 : ∀ (l1 : Int32) (l2 : Int32) (s : Int32 × xM_S) (o : Int32 × xM_S), L_X5_keep_23 l1 l2 s = some o → P0 o → xm_W g Γ 23 [some (.ref m), some (.int l1), some (.int l2), some (.int s.1)] [] (xMp h0 m ad s.2) 0 0 := by
    intro l1 l2
    refine xl_rule (WS := fun s : Int32 × xM_S => xm_W g Γ 23 [some (.ref m), some (.int l1), some (.int l2), some (.int s.1)] [] (xMp h0 m ad s.2) 0 0) ?_
    intro s o e hp
    obtain ⟨P1, hP1, hp⟩ : ∃ P : (Int32 × xM_S) ⊕ (Int32 × xM_S) → Prop, (∀ o, P o → xl_P (fun s : Int32 × xM_S => xm_W g Γ 23 [some (.ref m), some (.int l1), some (.int l2), some (.int s.1)] [] (xMp h0 m ad s.2) 0 0) P0 o) ∧ P o := ⟨_, fun _ h => h, hp⟩
    unfold D_X5_keep_23 at e
    refine xw_ild (show xm_Imp g Γ 23 (xi_ild 3 24) from xs_iload_n hΓ dX5_keep_23) rfl ?_
    refine xw_psh (v := (.int (24))) (show xm_Imp g Γ 24 (xi_psh (.int (24)) 26) from xs_bipush hΓ dX5_keep_24 (by decide)) ?_
    refine xw_ic (show xm_Imp g Γ 26 (xi_ic (fun x y => y ≤ x) 55 29) from xs_icmp_ge hΓ dX5_keep_26 (by decide)) (fun c => ?_) (fun c => ?_)
    · rw [if_pos c] at e
      obtain ⟨_, e, hp⟩ := xl_o_s e (hP1 _ hp)
      refine xw_ald (show xm_Imp g Γ 55 (xi_ald 0 56) from xs_aload_n hΓ dX5_keep_55) rfl ?_
      refine xw_mga (k := 37) (show xm_Imp g Γ 56 (xi_get 4 37 59) from xs_get hG hΓ (ci := 4) (kf := 37) rfl (Nat.le_of_ble_eq_true rfl) q2887 dX5_keep_56) (fun _ => rfl) ?_
      refine xw_ild (show xm_Imp g Γ 59 (xi_ild 1 60) from xs_iload_n hΓ dX5_keep_59) rfl ?_
      refine xw_psh (v := (.int (1))) (show xm_Imp g Γ 60 (xi_psh (.int (1)) 61) from xs_iconst hΓ dX5_keep_60 (by decide)) ?_
      obtain ⟨j3, e1, e⟩ := xo_b_s e
      refine xw_mzas (k := 37) (show xm_Imp g Γ 61 (xi_zas 62) from xs_zas hG hΓ dX5_keep_61) hM (by decide) rfl e1 rfl ?_
      refine xw_ild (show xm_Imp g Γ 62 (xi_ild 2 63) from xs_iload_n hΓ dX5_keep_62) rfl ?_
      obtain ⟨_, e1, e⟩ := xo_b_s e
      exact xw_iret (show xm_Imp g Γ 63 (xi_iret .boolean _) from xs_ireturn hΓ rfl dX5_keep_63) (xb_of e1) (hP0 _ (xl_fin e hp))
    · rw [if_neg c] at e
      refine xw_ald (show xm_Imp g Γ 29 (xi_ald 0 30) from xs_aload_n hΓ dX5_keep_29) rfl ?_
      refine xw_mga (k := 36) (show xm_Imp g Γ 30 (xi_get 4 36 33) from xs_get hG hΓ (ci := 4) (kf := 36) rfl (Nat.le_of_ble_eq_true rfl) q2886 dX5_keep_30) (fun _ => rfl) ?_
      refine xw_psh (v := (.int (24))) (show xm_Imp g Γ 33 (xi_psh (.int (24)) 35) from xs_bipush hΓ dX5_keep_33 (by decide)) ?_
      refine xw_ild (show xm_Imp g Γ 35 (xi_ild 1 36) from xs_iload_n hΓ dX5_keep_35) rfl ?_
      refine xw_ii (show xm_Imp g Γ 36 (xi_ii (fun x y => x * y) 37) from xs_imul hΓ dX5_keep_36) ?_
      refine xw_ild (show xm_Imp g Γ 37 (xi_ild 3 38) from xs_iload_n hΓ dX5_keep_37) rfl ?_
      refine xw_ii (show xm_Imp g Γ 38 (xi_ii (fun x y => x + y) 39) from xs_iadd hΓ dX5_keep_38) ?_
      refine xw_ald (show xm_Imp g Γ 39 (xi_ald 0 40) from xs_aload_n hΓ dX5_keep_39) rfl ?_
      refine xw_mga (k := 1) (show xm_Imp g Γ 40 (xi_get 4 1 43) from xs_get hG hΓ (ci := 4) (kf := 1) rfl (Nat.le_of_ble_eq_true rfl) q2851 dX5_keep_40) (fun _ => rfl) ?_
      refine xw_psh (v := (.int (6))) (show xm_Imp g Γ 43 (xi_psh (.int (6)) 45) from xs_bipush hΓ dX5_keep_43 (by decide)) ?_
      refine xw_ild (show xm_Imp g Γ 45 (xi_ild 3 46) from xs_iload_n hΓ dX5_keep_45) rfl ?_
      refine xw_ii (show xm_Imp g Γ 46 (xi_ii (fun x y => x + y) 47) from xs_iadd hΓ dX5_keep_46) ?_
      obtain ⟨j4, e1, e⟩ := xo_b_s e
      refine xw_mial (k := 1) (v := (s.2.2 1 j4)) (show xm_Imp g Γ 47 (xi_ial 48) from xs_ial hG hΓ dX5_keep_47) hM (by decide) rfl e1 rfl ?_
      obtain ⟨j5, e1, e⟩ := xo_b_s e
      refine xw_mias (k := 36) (show xm_Imp g Γ 48 (xi_ias 49) from xs_ias hG hΓ dX5_keep_48) hM (by decide) rfl e1 ?_
      refine xw_inc (v := (1)) (ls' := [some (.ref m), some (.int l1), some (.int l2), some (.int (s.1 + 1))]) (show xm_Imp g Γ 49 (xi_inc 3 (1) 52) from xs_iinc hΓ dX5_keep_49 (by decide) (Nat.le_of_ble_eq_true rfl)) rfl rfl ?_
      refine xw_goto (show xm_Imp g Γ 52 (xi_goto 23) from xs_goto hΓ dX5_keep_52 (by decide)) ?_
      have hq := xl_P_inl (hP1 _ (xl_fin e hp)); exact hq
  unfold F_X5_keep at e
  refine xw_ald (show xm_Imp g Γ 0 (xi_ald 0 1) from xs_aload_n hΓ dX5_keep_0) rfl ?_
  refine xw_ald (show xm_Imp g Γ 1 (xi_ald 0 2) from xs_aload_n hΓ dX5_keep_1) rfl ?_
  refine xw_ild (show xm_Imp g Γ 2 (xi_ild 1 3) from xs_iload_n hΓ dX5_keep_2) rfl ?_
  refine xw_mv1 (show xm_Imp g Γ 3 (xi_vir g 4 M_X5_isSlot 2 1 6) from xs_invV hG hΓ k_X5_isSlot rfl (ci := 4) rfl q3444 q3446 qs109 dX5_keep_3) rfl (fun Q X hQ => K_X5_isSlot hG hM hB p1 σ rfl hQ) ?_
  obtain ⟨v1, e1, e⟩ := xo_b_s e
  refine xw_mv1 (show xm_Imp g Γ 6 (xi_vir g 4 M_X5_is 1 1 9) from xs_invV hG hΓ k_X5_is rfl (ci := 4) rfl q2986 q2988 qs46 dX5_keep_6) rfl (fun Q X hQ => K_X5_is hG hM hB (F_X5_isSlot p1) σ e1 hQ) ?_
  refine xw_if (show xm_Imp g Γ 9 (xi_if (fun x => x = 0) 12 14) from xs_if_ne hΓ dX5_keep_9 (by decide)) (fun c => ?_) (fun c => ?_)
  · rw [if_pos c] at e
    refine xw_psh (v := (.int (0))) (show xm_Imp g Γ 12 (xi_psh (.int (0)) 13) from xs_iconst hΓ dX5_keep_12 (by decide)) ?_
    exact xw_iret (show xm_Imp g Γ 13 (xi_iret .boolean _) from xs_ireturn hΓ rfl dX5_keep_13) rfl (hP0 _ (xl_fin e hp))
  · rw [if_neg c] at e
    refine xw_ald (show xm_Imp g Γ 14 (xi_ald 0 15) from xs_aload_n hΓ dX5_keep_14) rfl ?_
    refine xw_mga (k := 37) (show xm_Imp g Γ 15 (xi_get 4 37 18) from xs_get hG hΓ (ci := 4) (kf := 37) rfl (Nat.le_of_ble_eq_true rfl) q2887 dX5_keep_15) (fun _ => rfl) ?_
    refine xw_ild (show xm_Imp g Γ 18 (xi_ild 1 19) from xs_iload_n hΓ dX5_keep_18) rfl ?_
    obtain ⟨j2, e1, e⟩ := xo_b_s e
    refine xw_mzal (k := 37) (v := (v1.2.2 37 j2)) (show xm_Imp g Γ 19 (xi_zal 20) from xs_zal hG hΓ dX5_keep_19) hM (by decide) rfl e1 rfl ?_
    refine xw_ist (ls' := [some (.ref m), some (.int p1), some (.int (v1.2.2 37 j2)), none]) (show xm_Imp g Γ 20 (xi_ist 2 21) from xs_istore_n hΓ dX5_keep_20 (Nat.le_of_ble_eq_true rfl)) rfl ?_
    refine xw_psh (v := (.int (0))) (show xm_Imp g Γ 21 (xi_psh (.int (0)) 22) from xs_iconst hΓ dX5_keep_21 (by decide)) ?_
    refine xw_ist (ls' := [some (.ref m), some (.int p1), some (.int (v1.2.2 37 j2)), some (.int 0)]) (show xm_Imp g Γ 22 (xi_ist 3 23) from xs_istore_n hΓ dX5_keep_22 (Nat.le_of_ble_eq_true rfl)) rfl ?_
    exact hL_23 _ _ _ _ e hp
noncomputable def B_X5_mayUse_30 (σ : xM_S) : Option (Int32 × xM_S) :=
 some ((0, σ))
noncomputable def F_X5_mayUse (p1 : Int32) (σ : xM_S) : Option (Int32 × xM_S) :=
 xo_b (F_X5_is (F_X5_isSlot p1) σ) (fun v1 =>
 (if v1.1 = 0 then
 B_X5_mayUse_30 v1.2 else
 xo_b (xa_ix 2 p1) (fun j2 =>
 xo_b (F_X5_may (v1.2.2 37 j2) 2 v1.2) (fun v3 =>
 (if v3.1 = 0 then
 B_X5_mayUse_30 v3.2 else
 some ((1, v3.2)))))))
set_option maxHeartbeats 4000000 in
theorem K_X5_mayUse {g : xm_G} (hG : xm_Gw g) {h0 : xm_H} {m : Nat} {ad : Nat → Nat} (hM : xM_ok h0 m ad) (hB : xk_B g h0) (p1 : Int32) (σ : xM_S) {o : Int32 × xM_S} (e : F_X5_mayUse p1 σ = some o) {Q : xm_P} {X : xm_X} (hQ : Q (some (.int o.1)) (xMp h0 m ad o.2)) : xm_Run g M_X5_mayUse 3 [.ref m, .int p1] (xMp h0 m ad σ) 0 0 Q X := by
  refine xm_Run.of pn_StringTableauModel (Nat.le_of_ble_eq_true rfl) (fun Γ hΓ => ?_)
  obtain ⟨P0, hP0, hp⟩ : ∃ P : Int32 × xM_S → Prop, (∀ o, P o → Q (some (.int o.1)) (xMp h0 m ad o.2)) ∧ P o := ⟨fun o => Q (some (.int o.1)) (xMp h0 m ad o.2), fun _ h => h, hQ⟩
  clear hQ
  show xm_W g Γ 0 [some (.ref m), some (.int p1)] [] (xMp h0 m ad σ) 0 0
  have hB_30 : ∀ (σ : xM_S) (o : Int32 × xM_S), B_X5_mayUse_30 σ = some o → P0 o → xm_W g Γ 30 [none, none] [] (xMp h0 m ad σ) 0 0 := by
    intro σ o e hp
    unfold B_X5_mayUse_30 at e
    refine xw_psh (v := (.int (0))) (show xm_Imp g Γ 30 (xi_psh (.int (0)) 31) from xs_iconst hΓ dX5_mayUse_30 (by decide)) ?_
    exact xw_iret (show xm_Imp g Γ 31 (xi_iret .boolean _) from xs_ireturn hΓ rfl dX5_mayUse_31) rfl (hP0 _ (xl_fin e hp))
  unfold F_X5_mayUse at e
  refine xw_ald (show xm_Imp g Γ 0 (xi_ald 0 1) from xs_aload_n hΓ dX5_mayUse_0) rfl ?_
  refine xw_ald (show xm_Imp g Γ 1 (xi_ald 0 2) from xs_aload_n hΓ dX5_mayUse_1) rfl ?_
  refine xw_ild (show xm_Imp g Γ 2 (xi_ild 1 3) from xs_iload_n hΓ dX5_mayUse_2) rfl ?_
  refine xw_mv1 (show xm_Imp g Γ 3 (xi_vir g 4 M_X5_isSlot 2 1 6) from xs_invV hG hΓ k_X5_isSlot rfl (ci := 4) rfl q3444 q3446 qs109 dX5_mayUse_3) rfl (fun Q X hQ => K_X5_isSlot hG hM hB p1 σ rfl hQ) ?_
  obtain ⟨v1, e1, e⟩ := xo_b_s e
  refine xw_mv1 (show xm_Imp g Γ 6 (xi_vir g 4 M_X5_is 1 1 9) from xs_invV hG hΓ k_X5_is rfl (ci := 4) rfl q2986 q2988 qs46 dX5_mayUse_6) rfl (fun Q X hQ => K_X5_is hG hM hB (F_X5_isSlot p1) σ e1 hQ) ?_
  refine xw_if (show xm_Imp g Γ 9 (xi_if (fun x => x = 0) 30 12) from xs_if_eq hΓ dX5_mayUse_9 (by decide)) (fun c => ?_) (fun c => ?_)
  · rw [if_pos c] at e
    exact xm_lx (hB_30 _ _ e hp) (trivial)
  · rw [if_neg c] at e
    refine xw_ald (show xm_Imp g Γ 12 (xi_ald 0 13) from xs_aload_n hΓ dX5_mayUse_12) rfl ?_
    refine xw_ald (show xm_Imp g Γ 13 (xi_ald 0 14) from xs_aload_n hΓ dX5_mayUse_13) rfl ?_
    refine xw_mga (k := 37) (show xm_Imp g Γ 14 (xi_get 4 37 17) from xs_get hG hΓ (ci := 4) (kf := 37) rfl (Nat.le_of_ble_eq_true rfl) q2887 dX5_mayUse_14) (fun _ => rfl) ?_
    refine xw_ild (show xm_Imp g Γ 17 (xi_ild 1 18) from xs_iload_n hΓ dX5_mayUse_17) rfl ?_
    obtain ⟨j2, e1, e⟩ := xo_b_s e
    refine xw_mzal (k := 37) (v := (v1.2.2 37 j2)) (show xm_Imp g Γ 18 (xi_zal 19) from xs_zal hG hΓ dX5_mayUse_18) hM (by decide) rfl e1 rfl ?_
    refine xw_psh (v := (.int (2))) (show xm_Imp g Γ 19 (xi_psh (.int (2)) 20) from xs_iconst hΓ dX5_mayUse_19 (by decide)) ?_
    obtain ⟨v3, e1, e⟩ := xo_b_s e
    refine xw_mv2 (show xm_Imp g Γ 20 (xi_vir g 4 M_X5_may 1 2 23) from xs_invV hG hΓ k_X5_may rfl (ci := 4) rfl q3003 q3005 qs48 dX5_mayUse_20) rfl (fun Q X hQ => K_X5_may hG hM hB (v1.2.2 37 j2) 2 v1.2 e1 hQ) ?_
    refine xw_if (show xm_Imp g Γ 23 (xi_if (fun x => x = 0) 30 26) from xs_if_eq hΓ dX5_mayUse_23 (by decide)) (fun c => ?_) (fun c => ?_)
    · rw [if_pos c] at e
      exact xm_lx (hB_30 _ _ e hp) (trivial)
    · rw [if_neg c] at e
      refine xw_psh (v := (.int (1))) (show xm_Imp g Γ 26 (xi_psh (.int (1)) 27) from xs_iconst hΓ dX5_mayUse_26 (by decide)) ?_
      refine xw_goto (show xm_Imp g Γ 27 (xi_goto 31) from xs_goto hΓ dX5_mayUse_27 (by decide)) ?_
      exact xw_iret (show xm_Imp g Γ 31 (xi_iret .boolean _) from xs_ireturn hΓ rfl dX5_mayUse_31) rfl (hP0 _ (xl_fin e hp))
noncomputable def D_X5_takesSlot_2 (l1 : Int32) (s : Int32 × xM_S) : Option ((Int32 × xM_S) ⊕ (xM_S)) :=
 (if 24 ≤ s.1 then
 xl_o (some s.2) else
 xo_b (xa_ix 48 ((24 * l1) + s.1)) (fun j1 =>
 xo_b (xa_ix 530 (6 + s.1)) (fun j2 =>
 some (Sum.inl (s.1 + 1, (xM_a s.2 1 j2 (s.2.2 36 j1)))))))
noncomputable def L_X5_takesSlot_2 (l1 : Int32) (s : Int32 × xM_S) : Option (xM_S) := xl_loop (D_X5_takesSlot_2 l1) s
noncomputable def F_X5_takesSlot (p1 : Int32) (σ : xM_S) : Option (xM_S) :=
 L_X5_takesSlot_2 p1 (0, σ)
set_option maxHeartbeats 4000000 in
theorem K_X5_takesSlot {g : xm_G} (hG : xm_Gw g) {h0 : xm_H} {m : Nat} {ad : Nat → Nat} (hM : xM_ok h0 m ad) (hB : xk_B g h0) (p1 : Int32) (σ : xM_S) {o : xM_S} (e : F_X5_takesSlot p1 σ = some o) {Q : xm_P} {X : xm_X} (hQ : Q none (xMp h0 m ad o)) : xm_Run g M_X5_takesSlot 1 [.ref m, .int p1] (xMp h0 m ad σ) 0 0 Q X := by
  refine xm_Run.of pn_StringTableauModel (Nat.le_of_ble_eq_true rfl) (fun Γ hΓ => ?_)
  obtain ⟨P0, hP0, hp⟩ : ∃ P : xM_S → Prop, (∀ o, P o → Q none (xMp h0 m ad o)) ∧ P o := ⟨fun o => Q none (xMp h0 m ad o), fun _ h => h, hQ⟩
  clear hQ
  show xm_W g Γ 0 [some (.ref m), some (.int p1), none] [] (xMp h0 m ad σ) 0 0
  have hL_2 : ∀ (l1 : Int32) (s : Int32 × xM_S) (o : xM_S), L_X5_takesSlot_2 l1 s = some o → P0 o → xm_W g Γ 2 [some (.ref m), some (.int l1), some (.int s.1)] [] (xMp h0 m ad s.2) 0 0 := by
    intro l1
    refine xl_rule (WS := fun s : Int32 × xM_S => xm_W g Γ 2 [some (.ref m), some (.int l1), some (.int s.1)] [] (xMp h0 m ad s.2) 0 0) ?_
    intro s o e hp
    obtain ⟨P1, hP1, hp⟩ : ∃ P : (Int32 × xM_S) ⊕ (xM_S) → Prop, (∀ o, P o → xl_P (fun s : Int32 × xM_S => xm_W g Γ 2 [some (.ref m), some (.int l1), some (.int s.1)] [] (xMp h0 m ad s.2) 0 0) P0 o) ∧ P o := ⟨_, fun _ h => h, hp⟩
    unfold D_X5_takesSlot_2 at e
    refine xw_ild (show xm_Imp g Γ 2 (xi_ild 2 3) from xs_iload_n hΓ dX5_takesSlot_2) rfl ?_
    refine xw_psh (v := (.int (24))) (show xm_Imp g Γ 3 (xi_psh (.int (24)) 5) from xs_bipush hΓ dX5_takesSlot_3 (by decide)) ?_
    refine xw_ic (show xm_Imp g Γ 5 (xi_ic (fun x y => y ≤ x) 34 8) from xs_icmp_ge hΓ dX5_takesSlot_5 (by decide)) (fun c => ?_) (fun c => ?_)
    · rw [if_pos c] at e
      obtain ⟨_, e, hp⟩ := xl_o_s e (hP1 _ hp)
      exact xw_vret (show xm_Imp g Γ 34 (xi_vret _) from xs_return hΓ rfl dX5_takesSlot_34) (hP0 _ (xl_fin e hp))
    · rw [if_neg c] at e
      refine xw_ald (show xm_Imp g Γ 8 (xi_ald 0 9) from xs_aload_n hΓ dX5_takesSlot_8) rfl ?_
      refine xw_mga (k := 1) (show xm_Imp g Γ 9 (xi_get 4 1 12) from xs_get hG hΓ (ci := 4) (kf := 1) rfl (Nat.le_of_ble_eq_true rfl) q2851 dX5_takesSlot_9) (fun _ => rfl) ?_
      refine xw_psh (v := (.int (6))) (show xm_Imp g Γ 12 (xi_psh (.int (6)) 14) from xs_bipush hΓ dX5_takesSlot_12 (by decide)) ?_
      refine xw_ild (show xm_Imp g Γ 14 (xi_ild 2 15) from xs_iload_n hΓ dX5_takesSlot_14) rfl ?_
      refine xw_ii (show xm_Imp g Γ 15 (xi_ii (fun x y => x + y) 16) from xs_iadd hΓ dX5_takesSlot_15) ?_
      refine xw_ald (show xm_Imp g Γ 16 (xi_ald 0 17) from xs_aload_n hΓ dX5_takesSlot_16) rfl ?_
      refine xw_mga (k := 36) (show xm_Imp g Γ 17 (xi_get 4 36 20) from xs_get hG hΓ (ci := 4) (kf := 36) rfl (Nat.le_of_ble_eq_true rfl) q2886 dX5_takesSlot_17) (fun _ => rfl) ?_
      refine xw_psh (v := (.int (24))) (show xm_Imp g Γ 20 (xi_psh (.int (24)) 22) from xs_bipush hΓ dX5_takesSlot_20 (by decide)) ?_
      refine xw_ild (show xm_Imp g Γ 22 (xi_ild 1 23) from xs_iload_n hΓ dX5_takesSlot_22) rfl ?_
      refine xw_ii (show xm_Imp g Γ 23 (xi_ii (fun x y => x * y) 24) from xs_imul hΓ dX5_takesSlot_23) ?_
      refine xw_ild (show xm_Imp g Γ 24 (xi_ild 2 25) from xs_iload_n hΓ dX5_takesSlot_24) rfl ?_
      refine xw_ii (show xm_Imp g Γ 25 (xi_ii (fun x y => x + y) 26) from xs_iadd hΓ dX5_takesSlot_25) ?_
      obtain ⟨j1, e1, e⟩ := xo_b_s e
      refine xw_mial (k := 36) (v := (s.2.2 36 j1)) (show xm_Imp g Γ 26 (xi_ial 27) from xs_ial hG hΓ dX5_takesSlot_26) hM (by decide) rfl e1 rfl ?_
      obtain ⟨j2, e1, e⟩ := xo_b_s e
      refine xw_mias (k := 1) (show xm_Imp g Γ 27 (xi_ias 28) from xs_ias hG hΓ dX5_takesSlot_27) hM (by decide) rfl e1 ?_
      refine xw_inc (v := (1)) (ls' := [some (.ref m), some (.int l1), some (.int (s.1 + 1))]) (show xm_Imp g Γ 28 (xi_inc 2 (1) 31) from xs_iinc hΓ dX5_takesSlot_28 (by decide) (Nat.le_of_ble_eq_true rfl)) rfl rfl ?_
      refine xw_goto (show xm_Imp g Γ 31 (xi_goto 2) from xs_goto hΓ dX5_takesSlot_31 (by decide)) ?_
      have hq := xl_P_inl (hP1 _ (xl_fin e hp)); exact hq
  unfold F_X5_takesSlot at e
  refine xw_psh (v := (.int (0))) (show xm_Imp g Γ 0 (xi_psh (.int (0)) 1) from xs_iconst hΓ dX5_takesSlot_0 (by decide)) ?_
  refine xw_ist (ls' := [some (.ref m), some (.int p1), some (.int 0)]) (show xm_Imp g Γ 1 (xi_ist 2 2) from xs_istore_n hΓ dX5_takesSlot_1 (Nat.le_of_ble_eq_true rfl)) rfl ?_
  exact hL_2 _ _ _ e hp
noncomputable def F_X5_goBack (p1 : Int32) (σ : xM_S) : Option (Int32 × xM_S) :=
 xo_b (F_X5_mayUse p1 σ) (fun v1 =>
 (if v1.1 = 0 then
 some ((0, v1.2)) else
 xo_b (F_X5_starts v1.2) (fun v2 =>
 xo_b (F_X5_takesSlot p1 v2) (fun v3 =>
 xo_b (F_X5_keeps (xM_a v3 1 5 0)) (fun v4 =>
 xo_b (F_X5_changed v4) (fun v5 =>
 some ((v5, v4))))))))
set_option maxHeartbeats 4000000 in
theorem K_X5_goBack {g : xm_G} (hG : xm_Gw g) {h0 : xm_H} {m : Nat} {ad : Nat → Nat} (hM : xM_ok h0 m ad) (hB : xk_B g h0) (p1 : Int32) (σ : xM_S) {o : Int32 × xM_S} (e : F_X5_goBack p1 σ = some o) {Q : xm_P} {X : xm_X} (hQ : Q (some (.int o.1)) (xMp h0 m ad o.2)) : xm_Run g M_X5_goBack 4 [.ref m, .int p1] (xMp h0 m ad σ) 0 0 Q X := by
  refine xm_Run.of pn_StringTableauModel (Nat.le_of_ble_eq_true rfl) (fun Γ hΓ => ?_)
  obtain ⟨P0, hP0, hp⟩ : ∃ P : Int32 × xM_S → Prop, (∀ o, P o → Q (some (.int o.1)) (xMp h0 m ad o.2)) ∧ P o := ⟨fun o => Q (some (.int o.1)) (xMp h0 m ad o.2), fun _ h => h, hQ⟩
  clear hQ
  show xm_W g Γ 0 [some (.ref m), some (.int p1)] [] (xMp h0 m ad σ) 0 0
  unfold F_X5_goBack at e
  refine xw_ald (show xm_Imp g Γ 0 (xi_ald 0 1) from xs_aload_n hΓ dX5_goBack_0) rfl ?_
  refine xw_ild (show xm_Imp g Γ 1 (xi_ild 1 2) from xs_iload_n hΓ dX5_goBack_1) rfl ?_
  obtain ⟨v1, e1, e⟩ := xo_b_s e
  refine xw_mv1 (show xm_Imp g Γ 2 (xi_vir g 4 M_X5_mayUse 3 1 5) from xs_invV hG hΓ k_X5_mayUse rfl (ci := 4) rfl q3452 q3454 qs110 dX5_goBack_2) rfl (fun Q X hQ => K_X5_mayUse hG hM hB p1 σ e1 hQ) ?_
  refine xw_if (show xm_Imp g Γ 5 (xi_if (fun x => x = 0) 8 10) from xs_if_ne hΓ dX5_goBack_5 (by decide)) (fun c => ?_) (fun c => ?_)
  · rw [if_pos c] at e
    refine xw_psh (v := (.int (0))) (show xm_Imp g Γ 8 (xi_psh (.int (0)) 9) from xs_iconst hΓ dX5_goBack_8 (by decide)) ?_
    exact xw_iret (show xm_Imp g Γ 9 (xi_iret .int _) from xs_ireturn hΓ rfl dX5_goBack_9) (xn_int _) (hP0 _ (xl_fin e hp))
  · rw [if_neg c] at e
    refine xw_ald (show xm_Imp g Γ 10 (xi_ald 0 11) from xs_aload_n hΓ dX5_goBack_10) rfl ?_
    obtain ⟨v2, e1, e⟩ := xo_b_s e
    refine xw_mu0 (show xm_Imp g Γ 11 (xi_vir g 4 M_X5_starts 2 0 14) from xs_invV hG hΓ k_X5_starts rfl (ci := 4) rfl q3007 q3009 qs49 dX5_goBack_11) rfl (fun Q X hQ => K_X5_starts hG hM hB v1.2 e1 hQ) ?_
    refine xw_ald (show xm_Imp g Γ 14 (xi_ald 0 15) from xs_aload_n hΓ dX5_goBack_14) rfl ?_
    refine xw_ild (show xm_Imp g Γ 15 (xi_ild 1 16) from xs_iload_n hΓ dX5_goBack_15) rfl ?_
    obtain ⟨v3, e1, e⟩ := xo_b_s e
    refine xw_mu1 (show xm_Imp g Γ 16 (xi_vir g 4 M_X5_takesSlot 1 1 19) from xs_invV hG hΓ k_X5_takesSlot rfl (ci := 4) rfl q3456 q3458 qs111 dX5_goBack_16) rfl (fun Q X hQ => K_X5_takesSlot hG hM hB p1 v2 e1 hQ) ?_
    refine xw_ald (show xm_Imp g Γ 19 (xi_ald 0 20) from xs_aload_n hΓ dX5_goBack_19) rfl ?_
    refine xw_mga (k := 1) (show xm_Imp g Γ 20 (xi_get 4 1 23) from xs_get hG hΓ (ci := 4) (kf := 1) rfl (Nat.le_of_ble_eq_true rfl) q2851 dX5_goBack_20) (fun _ => rfl) ?_
    refine xw_psh (v := (.int (5))) (show xm_Imp g Γ 23 (xi_psh (.int (5)) 24) from xs_iconst hΓ dX5_goBack_23 (by decide)) ?_
    refine xw_psh (v := (.int (0))) (show xm_Imp g Γ 24 (xi_psh (.int (0)) 25) from xs_iconst hΓ dX5_goBack_24 (by decide)) ?_
    refine xw_mias (k := 1) (j := 5) (show xm_Imp g Γ 25 (xi_ias 26) from xs_ias hG hΓ dX5_goBack_25) hM (by decide) rfl rfl ?_
    refine xw_ald (show xm_Imp g Γ 26 (xi_ald 0 27) from xs_aload_n hΓ dX5_goBack_26) rfl ?_
    obtain ⟨v4, e1, e⟩ := xo_b_s e
    refine xw_mu0 (show xm_Imp g Γ 27 (xi_vir g 4 M_X5_keeps 1 0 30) from xs_invV hG hΓ k_X5_keeps rfl (ci := 4) rfl q3052 q3054 qs58 dX5_goBack_27) rfl (fun Q X hQ => K_X5_keeps hG hM hB (xM_a v3 1 5 0) e1 hQ) ?_
    refine xw_ald (show xm_Imp g Γ 30 (xi_ald 0 31) from xs_aload_n hΓ dX5_goBack_30) rfl ?_
    obtain ⟨v5, e1, e⟩ := xo_b_s e
    refine xw_mv0 (show xm_Imp g Γ 31 (xi_vir g 4 M_X5_changed 1 0 34) from xs_invV hG hΓ k_X5_changed rfl (ci := 4) rfl q3056 q3058 qs59 dX5_goBack_31) rfl (fun Q X hQ => K_X5_changed hG hM hB v4 e1 hQ) ?_
    exact xw_iret (show xm_Imp g Γ 34 (xi_iret .int _) from xs_ireturn hΓ rfl dX5_goBack_34) (xn_int _) (hP0 _ (xl_fin e hp))
noncomputable def B_X5_compares_117 (l1 : Int32) (l2 : Int32) (σ : xM_S) : Option ((Int32 × xM_S) ⊕ (xM_S)) :=
 xo_b (F_X5_copies 3 1 σ) (fun v5 =>
 some (Sum.inl (l2 + 1, v5)))
noncomputable def B_X5_compares_92 (l1 : Int32) (l2 : Int32) (l5 : Int32) (l6 : Int32) (σ : xM_S) : Option ((Int32 × xM_S) ⊕ (xM_S)) :=
 (if l6 = (-1) then
 B_X5_compares_117 l1 l2 σ else
 (if (σ.1 8) = l5 then
 B_X5_compares_117 l1 l2 σ else
 B_X5_compares_117 l1 l2 (xM_f σ 39 ((σ.1 39) + 1))))
noncomputable def D_X5_compares_23 (l1 : Int32) (s : Int32 × xM_S) : Option ((Int32 × xM_S) ⊕ (xM_S)) :=
 (if (F_X5_sets s.2) ≤ s.1 then
 xl_o (some s.2) else
 xo_b (F_X5_takesElement s.1 s.2) (fun v2 =>
 xo_b (F_X5_takesSlot l1 v2) (fun v3 =>
 xo_b (F_X5_setOf (v2.1 6) (v2.1 7) v3) (fun v4 =>
 (if v4.1 = (-1) then
 B_X5_compares_92 l1 s.1 (v2.1 8) v4.1 v4.2 else
 (if (v4.2.1 8) = (v2.1 8) then
 B_X5_compares_92 l1 s.1 (v2.1 8) v4.1 (xM_f v4.2 38 ((v4.2.1 38) + 1)) else
 B_X5_compares_92 l1 s.1 (v2.1 8) v4.1 v4.2))))))
noncomputable def L_X5_compares_23 (l1 : Int32) (s : Int32 × xM_S) : Option (xM_S) := xl_loop (D_X5_compares_23 l1) s
noncomputable def F_X5_compares (p1 : Int32) (σ : xM_S) : Option (xM_S) :=
 xo_b (F_X5_copies 1 3 (xM_f (xM_f σ 38 0) 39 0)) (fun v1 =>
 L_X5_compares_23 p1 (0, v1))
set_option maxHeartbeats 4000000 in
theorem K_X5_compares {g : xm_G} (hG : xm_Gw g) {h0 : xm_H} {m : Nat} {ad : Nat → Nat} (hM : xM_ok h0 m ad) (hB : xk_B g h0) (p1 : Int32) (σ : xM_S) {o : xM_S} (e : F_X5_compares p1 σ = some o) {Q : xm_P} {X : xm_X} (hQ : Q none (xMp h0 m ad o)) : xm_Run g M_X5_compares 7 [.ref m, .int p1] (xMp h0 m ad σ) 0 0 Q X := by
  refine xm_Run.of pn_StringTableauModel (Nat.le_of_ble_eq_true rfl) (fun Γ hΓ => ?_)
  obtain ⟨P0, hP0, hp⟩ : ∃ P : xM_S → Prop, (∀ o, P o → Q none (xMp h0 m ad o)) ∧ P o := ⟨fun o => Q none (xMp h0 m ad o), fun _ h => h, hQ⟩
  clear hQ
  show xm_W g Γ 0 [some (.ref m), some (.int p1), none, none, none, none, none] [] (xMp h0 m ad σ) 0 0
  have hL_23 : ∀ (l1 : Int32) (s : Int32 × xM_S) (o : xM_S), L_X5_compares_23 l1 s = some o → P0 o → xm_W g Γ 23 [some (.ref m), some (.int l1), some (.int s.1), none, none, none, none] [] (xMp h0 m ad s.2) 0 0 := by
    intro l1
    refine xl_rule (WS := fun s : Int32 × xM_S => xm_W g Γ 23 [some (.ref m), some (.int l1), some (.int s.1), none, none, none, none] [] (xMp h0 m ad s.2) 0 0) ?_
    intro s o e hp
    obtain ⟨P1, hP1, hp⟩ : ∃ P : (Int32 × xM_S) ⊕ (xM_S) → Prop, (∀ o, P o → xl_P (fun s : Int32 × xM_S => xm_W g Γ 23 [some (.ref m), some (.int l1), some (.int s.1), none, none, none, none] [] (xMp h0 m ad s.2) 0 0) P0 o) ∧ P o := ⟨_, fun _ h => h, hp⟩
    have hB_117 : ∀ (l2 : Int32) (σ : xM_S) (o : (Int32 × xM_S) ⊕ (xM_S)), B_X5_compares_117 l1 l2 σ = some o → P1 o → xm_W g Γ 117 [some (.ref m), some (.int l1), some (.int l2), none, none, none, none] [] (xMp h0 m ad σ) 0 0 := by
      intro l2 σ o e hp
      unfold B_X5_compares_117 at e
      refine xw_ald (show xm_Imp g Γ 117 (xi_ald 0 118) from xs_aload_n hΓ dX5_compares_117) rfl ?_
      refine xw_mga (k := 3) (show xm_Imp g Γ 118 (xi_get 4 3 121) from xs_get hG hΓ (ci := 4) (kf := 3) rfl (Nat.le_of_ble_eq_true rfl) q2853 dX5_compares_118) (fun _ => rfl) ?_
      refine xw_ald (show xm_Imp g Γ 121 (xi_ald 0 122) from xs_aload_n hΓ dX5_compares_121) rfl ?_
      refine xw_mga (k := 1) (show xm_Imp g Γ 122 (xi_get 4 1 125) from xs_get hG hΓ (ci := 4) (kf := 1) rfl (Nat.le_of_ble_eq_true rfl) q2851 dX5_compares_122) (fun _ => rfl) ?_
      obtain ⟨v5, e1, e⟩ := xo_b_s e
      refine xw_su2 (show xm_Imp g Γ 125 (xi_inv g M_X5_copies 1 2 128) from xs_invS hG hΓ k_X5_copies rfl q3011 q3012 dX5_compares_125) rfl (fun Q X hQ => K_X5_copies hG hM hB 3 1 (by decide) (by decide) σ e1 hQ) ?_
      refine xw_inc (v := (1)) (ls' := [some (.ref m), some (.int l1), some (.int (l2 + 1)), none, none, none, none]) (show xm_Imp g Γ 128 (xi_inc 2 (1) 131) from xs_iinc hΓ dX5_compares_128 (by decide) (Nat.le_of_ble_eq_true rfl)) rfl rfl ?_
      refine xw_goto (show xm_Imp g Γ 131 (xi_goto 23) from xs_goto hΓ dX5_compares_131 (by decide)) ?_
      have hq := xl_P_inl (hP1 _ (xl_fin e hp)); exact hq
    have hB_92 : ∀ (l2 : Int32) (l5 : Int32) (l6 : Int32) (σ : xM_S) (o : (Int32 × xM_S) ⊕ (xM_S)), B_X5_compares_92 l1 l2 l5 l6 σ = some o → P1 o → xm_W g Γ 92 [some (.ref m), some (.int l1), some (.int l2), none, none, some (.int l5), some (.int l6)] [] (xMp h0 m ad σ) 0 0 := by
      intro l2 l5 l6 σ o e hp
      unfold B_X5_compares_92 at e
      refine xw_ild (show xm_Imp g Γ 92 (xi_ild 6 94) from xs_iload hΓ dX5_compares_92) rfl ?_
      refine xw_psh (v := (.int (-1))) (show xm_Imp g Γ 94 (xi_psh (.int (-1)) 95) from xs_iconst hΓ dX5_compares_94 (by decide)) ?_
      refine xw_ic (show xm_Imp g Γ 95 (xi_ic (fun x y => x = y) 117 98) from xs_icmp_eq hΓ dX5_compares_95 (by decide)) (fun c => ?_) (fun c => ?_)
      · rw [if_pos c] at e
        exact xm_lx (hB_117 _ _ _ e hp) (And.intro rfl (And.intro rfl (And.intro rfl (trivial))))
      · rw [if_neg c] at e
        refine xw_ald (show xm_Imp g Γ 98 (xi_ald 0 99) from xs_aload_n hΓ dX5_compares_98) rfl ?_
        refine xw_mgi (v := (σ.1 8)) (show xm_Imp g Γ 99 (xi_get 4 8 102) from xs_get hG hΓ (ci := 4) (kf := 8) rfl (Nat.le_of_ble_eq_true rfl) q2858 dX5_compares_99) (fun _ => rfl) rfl ?_
        refine xw_ild (show xm_Imp g Γ 102 (xi_ild 5 104) from xs_iload hΓ dX5_compares_102) rfl ?_
        refine xw_ic (show xm_Imp g Γ 104 (xi_ic (fun x y => x = y) 117 107) from xs_icmp_eq hΓ dX5_compares_104 (by decide)) (fun c => ?_) (fun c => ?_)
        · rw [if_pos c] at e
          exact xm_lx (hB_117 _ _ _ e hp) (And.intro rfl (And.intro rfl (And.intro rfl (trivial))))
        · rw [if_neg c] at e
          refine xw_ald (show xm_Imp g Γ 107 (xi_ald 0 108) from xs_aload_n hΓ dX5_compares_107) rfl ?_
          refine xw_ald (show xm_Imp g Γ 108 (xi_ald 0 109) from xs_aload_n hΓ dX5_compares_108) rfl ?_
          refine xw_mgi (v := (σ.1 39)) (show xm_Imp g Γ 109 (xi_get 4 39 112) from xs_get hG hΓ (ci := 4) (kf := 39) rfl (Nat.le_of_ble_eq_true rfl) q2889 dX5_compares_109) (fun _ => rfl) rfl ?_
          refine xw_psh (v := (.int (1))) (show xm_Imp g Γ 112 (xi_psh (.int (1)) 113) from xs_iconst hΓ dX5_compares_112 (by decide)) ?_
          refine xw_ii (show xm_Imp g Γ 113 (xi_ii (fun x y => x + y) 114) from xs_iadd hΓ dX5_compares_113) ?_
          refine xw_mpi (show xm_Imp g Γ 114 (xi_put 4 39 (.int) 117) from xs_put hG hΓ (ci := 4) (kf := 39) rfl (Nat.le_of_ble_eq_true rfl) rfl (by decide +kernel) q2889 dX5_compares_114) (fun _ _ => rfl) ⟨rfl, rfl⟩ ?_
          exact xm_lx (hB_117 _ _ _ e hp) (And.intro rfl (And.intro rfl (And.intro rfl (trivial))))
    unfold D_X5_compares_23 at e
    refine xw_ild (show xm_Imp g Γ 23 (xi_ild 2 24) from xs_iload_n hΓ dX5_compares_23) rfl ?_
    refine xw_ald (show xm_Imp g Γ 24 (xi_ald 0 25) from xs_aload_n hΓ dX5_compares_24) rfl ?_
    refine xw_mv0 (show xm_Imp g Γ 25 (xi_vir g 4 M_X5_sets 1 0 28) from xs_invV hG hΓ k_X5_sets rfl (ci := 4) rfl q3073 q3075 qs61 dX5_compares_25) rfl (fun Q X hQ => K_X5_sets hG hM hB s.2 rfl hQ) ?_
    refine xw_ic (show xm_Imp g Γ 28 (xi_ic (fun x y => y ≤ x) 134 31) from xs_icmp_ge hΓ dX5_compares_28 (by decide)) (fun c => ?_) (fun c => ?_)
    · rw [if_pos c] at e
      obtain ⟨_, e, hp⟩ := xl_o_s e (hP1 _ hp)
      exact xw_vret (show xm_Imp g Γ 134 (xi_vret _) from xs_return hΓ rfl dX5_compares_134) (hP0 _ (xl_fin e hp))
    · rw [if_neg c] at e
      refine xw_ald (show xm_Imp g Γ 31 (xi_ald 0 32) from xs_aload_n hΓ dX5_compares_31) rfl ?_
      refine xw_ild (show xm_Imp g Γ 32 (xi_ild 2 33) from xs_iload_n hΓ dX5_compares_32) rfl ?_
      obtain ⟨v2, e1, e⟩ := xo_b_s e
      refine xw_mu1 (show xm_Imp g Γ 33 (xi_vir g 4 M_X5_takesElement 5 1 36) from xs_invV hG hΓ k_X5_takesElement rfl (ci := 4) rfl q3097 q3099 qs66 dX5_compares_33) rfl (fun Q X hQ => K_X5_takesElement hG hM hB s.1 s.2 e1 hQ) ?_
      refine xw_ald (show xm_Imp g Γ 36 (xi_ald 0 37) from xs_aload_n hΓ dX5_compares_36) rfl ?_
      refine xw_mgi (v := (v2.1 6)) (show xm_Imp g Γ 37 (xi_get 4 6 40) from xs_get hG hΓ (ci := 4) (kf := 6) rfl (Nat.le_of_ble_eq_true rfl) q2856 dX5_compares_37) (fun _ => rfl) rfl ?_
      refine xw_ist (ls' := [some (.ref m), some (.int l1), some (.int s.1), some (.int (v2.1 6)), none, none, none]) (show xm_Imp g Γ 40 (xi_ist 3 41) from xs_istore_n hΓ dX5_compares_40 (Nat.le_of_ble_eq_true rfl)) rfl ?_
      refine xw_ald (show xm_Imp g Γ 41 (xi_ald 0 42) from xs_aload_n hΓ dX5_compares_41) rfl ?_
      refine xw_mgi (v := (v2.1 7)) (show xm_Imp g Γ 42 (xi_get 4 7 45) from xs_get hG hΓ (ci := 4) (kf := 7) rfl (Nat.le_of_ble_eq_true rfl) q2857 dX5_compares_42) (fun _ => rfl) rfl ?_
      refine xw_ist (ls' := [some (.ref m), some (.int l1), some (.int s.1), some (.int (v2.1 6)), some (.int (v2.1 7)), none, none]) (show xm_Imp g Γ 45 (xi_ist 4 47) from xs_istore hΓ dX5_compares_45 (Nat.le_of_ble_eq_true rfl)) rfl ?_
      refine xw_ald (show xm_Imp g Γ 47 (xi_ald 0 48) from xs_aload_n hΓ dX5_compares_47) rfl ?_
      refine xw_mgi (v := (v2.1 8)) (show xm_Imp g Γ 48 (xi_get 4 8 51) from xs_get hG hΓ (ci := 4) (kf := 8) rfl (Nat.le_of_ble_eq_true rfl) q2858 dX5_compares_48) (fun _ => rfl) rfl ?_
      refine xw_ist (ls' := [some (.ref m), some (.int l1), some (.int s.1), some (.int (v2.1 6)), some (.int (v2.1 7)), some (.int (v2.1 8)), none]) (show xm_Imp g Γ 51 (xi_ist 5 53) from xs_istore hΓ dX5_compares_51 (Nat.le_of_ble_eq_true rfl)) rfl ?_
      refine xw_ald (show xm_Imp g Γ 53 (xi_ald 0 54) from xs_aload_n hΓ dX5_compares_53) rfl ?_
      refine xw_ild (show xm_Imp g Γ 54 (xi_ild 1 55) from xs_iload_n hΓ dX5_compares_54) rfl ?_
      obtain ⟨v3, e1, e⟩ := xo_b_s e
      refine xw_mu1 (show xm_Imp g Γ 55 (xi_vir g 4 M_X5_takesSlot 1 1 58) from xs_invV hG hΓ k_X5_takesSlot rfl (ci := 4) rfl q3456 q3458 qs111 dX5_compares_55) rfl (fun Q X hQ => K_X5_takesSlot hG hM hB l1 v2 e1 hQ) ?_
      refine xw_ald (show xm_Imp g Γ 58 (xi_ald 0 59) from xs_aload_n hΓ dX5_compares_58) rfl ?_
      refine xw_ild (show xm_Imp g Γ 59 (xi_ild 3 60) from xs_iload_n hΓ dX5_compares_59) rfl ?_
      refine xw_ild (show xm_Imp g Γ 60 (xi_ild 4 62) from xs_iload hΓ dX5_compares_60) rfl ?_
      obtain ⟨v4, e1, e⟩ := xo_b_s e
      refine xw_mv2 (show xm_Imp g Γ 62 (xi_vir g 4 M_X5_setOf 6 2 65) from xs_invV hG hΓ k_X5_setOf rfl (ci := 4) rfl q3093 q3095 qs65 dX5_compares_62) rfl (fun Q X hQ => K_X5_setOf hG hM hB (v2.1 6) (v2.1 7) v3 e1 hQ) ?_
      refine xw_ist (ls' := [some (.ref m), some (.int l1), some (.int s.1), some (.int (v2.1 6)), some (.int (v2.1 7)), some (.int (v2.1 8)), some (.int v4.1)]) (show xm_Imp g Γ 65 (xi_ist 6 67) from xs_istore hΓ dX5_compares_65 (Nat.le_of_ble_eq_true rfl)) rfl ?_
      refine xw_ild (show xm_Imp g Γ 67 (xi_ild 6 69) from xs_iload hΓ dX5_compares_67) rfl ?_
      refine xw_psh (v := (.int (-1))) (show xm_Imp g Γ 69 (xi_psh (.int (-1)) 70) from xs_iconst hΓ dX5_compares_69 (by decide)) ?_
      refine xw_ic (show xm_Imp g Γ 70 (xi_ic (fun x y => x = y) 92 73) from xs_icmp_eq hΓ dX5_compares_70 (by decide)) (fun c => ?_) (fun c => ?_)
      · rw [if_pos c] at e
        exact xm_lx (hB_92 _ _ _ _ _ e hp) (And.intro rfl (And.intro rfl (And.intro rfl (And.intro rfl (And.intro rfl (trivial))))))
      · rw [if_neg c] at e
        refine xw_ald (show xm_Imp g Γ 73 (xi_ald 0 74) from xs_aload_n hΓ dX5_compares_73) rfl ?_
        refine xw_mgi (v := (v4.2.1 8)) (show xm_Imp g Γ 74 (xi_get 4 8 77) from xs_get hG hΓ (ci := 4) (kf := 8) rfl (Nat.le_of_ble_eq_true rfl) q2858 dX5_compares_74) (fun _ => rfl) rfl ?_
        refine xw_ild (show xm_Imp g Γ 77 (xi_ild 5 79) from xs_iload hΓ dX5_compares_77) rfl ?_
        refine xw_ic (show xm_Imp g Γ 79 (xi_ic (fun x y => x = y) 82 92) from xs_icmp_ne hΓ dX5_compares_79 (by decide)) (fun c => ?_) (fun c => ?_)
        · rw [if_pos c] at e
          refine xw_ald (show xm_Imp g Γ 82 (xi_ald 0 83) from xs_aload_n hΓ dX5_compares_82) rfl ?_
          refine xw_ald (show xm_Imp g Γ 83 (xi_ald 0 84) from xs_aload_n hΓ dX5_compares_83) rfl ?_
          refine xw_mgi (v := (v4.2.1 38)) (show xm_Imp g Γ 84 (xi_get 4 38 87) from xs_get hG hΓ (ci := 4) (kf := 38) rfl (Nat.le_of_ble_eq_true rfl) q2888 dX5_compares_84) (fun _ => rfl) rfl ?_
          refine xw_psh (v := (.int (1))) (show xm_Imp g Γ 87 (xi_psh (.int (1)) 88) from xs_iconst hΓ dX5_compares_87 (by decide)) ?_
          refine xw_ii (show xm_Imp g Γ 88 (xi_ii (fun x y => x + y) 89) from xs_iadd hΓ dX5_compares_88) ?_
          refine xw_mpi (show xm_Imp g Γ 89 (xi_put 4 38 (.int) 92) from xs_put hG hΓ (ci := 4) (kf := 38) rfl (Nat.le_of_ble_eq_true rfl) rfl (by decide +kernel) q2888 dX5_compares_89) (fun _ _ => rfl) ⟨rfl, rfl⟩ ?_
          exact xm_lx (hB_92 _ _ _ _ _ e hp) (And.intro rfl (And.intro rfl (And.intro rfl (And.intro rfl (And.intro rfl (trivial))))))
        · rw [if_neg c] at e
          exact xm_lx (hB_92 _ _ _ _ _ e hp) (And.intro rfl (And.intro rfl (And.intro rfl (And.intro rfl (And.intro rfl (trivial))))))
  unfold F_X5_compares at e
  refine xw_ald (show xm_Imp g Γ 0 (xi_ald 0 1) from xs_aload_n hΓ dX5_compares_0) rfl ?_
  refine xw_psh (v := (.int (0))) (show xm_Imp g Γ 1 (xi_psh (.int (0)) 2) from xs_iconst hΓ dX5_compares_1 (by decide)) ?_
  refine xw_mpi (show xm_Imp g Γ 2 (xi_put 4 38 (.int) 5) from xs_put hG hΓ (ci := 4) (kf := 38) rfl (Nat.le_of_ble_eq_true rfl) rfl (by decide +kernel) q2888 dX5_compares_2) (fun _ _ => rfl) ⟨rfl, rfl⟩ ?_
  refine xw_ald (show xm_Imp g Γ 5 (xi_ald 0 6) from xs_aload_n hΓ dX5_compares_5) rfl ?_
  refine xw_psh (v := (.int (0))) (show xm_Imp g Γ 6 (xi_psh (.int (0)) 7) from xs_iconst hΓ dX5_compares_6 (by decide)) ?_
  refine xw_mpi (show xm_Imp g Γ 7 (xi_put 4 39 (.int) 10) from xs_put hG hΓ (ci := 4) (kf := 39) rfl (Nat.le_of_ble_eq_true rfl) rfl (by decide +kernel) q2889 dX5_compares_7) (fun _ _ => rfl) ⟨rfl, rfl⟩ ?_
  refine xw_ald (show xm_Imp g Γ 10 (xi_ald 0 11) from xs_aload_n hΓ dX5_compares_10) rfl ?_
  refine xw_mga (k := 1) (show xm_Imp g Γ 11 (xi_get 4 1 14) from xs_get hG hΓ (ci := 4) (kf := 1) rfl (Nat.le_of_ble_eq_true rfl) q2851 dX5_compares_11) (fun _ => rfl) ?_
  refine xw_ald (show xm_Imp g Γ 14 (xi_ald 0 15) from xs_aload_n hΓ dX5_compares_14) rfl ?_
  refine xw_mga (k := 3) (show xm_Imp g Γ 15 (xi_get 4 3 18) from xs_get hG hΓ (ci := 4) (kf := 3) rfl (Nat.le_of_ble_eq_true rfl) q2853 dX5_compares_15) (fun _ => rfl) ?_
  obtain ⟨v1, e1, e⟩ := xo_b_s e
  refine xw_su2 (show xm_Imp g Γ 18 (xi_inv g M_X5_copies 1 2 21) from xs_invS hG hΓ k_X5_copies rfl q3011 q3012 dX5_compares_18) rfl (fun Q X hQ => K_X5_copies hG hM hB 1 3 (by decide) (by decide) (xM_f (xM_f σ 38 0) 39 0) e1 hQ) ?_
  refine xw_psh (v := (.int (0))) (show xm_Imp g Γ 21 (xi_psh (.int (0)) 22) from xs_iconst hΓ dX5_compares_21 (by decide)) ?_
  refine xw_ist (ls' := [some (.ref m), some (.int p1), some (.int 0), none, none, none, none]) (show xm_Imp g Γ 22 (xi_ist 2 23) from xs_istore_n hΓ dX5_compares_22 (Nat.le_of_ble_eq_true rfl)) rfl ?_
  exact hL_23 _ _ _ e hp
noncomputable def F_X5_isSame (p1 : Int32) (σ : xM_S) : Option (Int32 × xM_S) :=
 xo_b (F_X5_mayUse p1 σ) (fun v1 =>
 (if v1.1 = 0 then
 some ((0, v1.2)) else
 xo_b (F_X5_compares p1 v1.2) (fun v2 =>
 (if (v2.1 38) = (F_X5_sets v2) then
 some ((1, v2)) else
 some ((0, v2))))))
set_option maxHeartbeats 4000000 in
theorem K_X5_isSame {g : xm_G} (hG : xm_Gw g) {h0 : xm_H} {m : Nat} {ad : Nat → Nat} (hM : xM_ok h0 m ad) (hB : xk_B g h0) (p1 : Int32) (σ : xM_S) {o : Int32 × xM_S} (e : F_X5_isSame p1 σ = some o) {Q : xm_P} {X : xm_X} (hQ : Q (some (.int o.1)) (xMp h0 m ad o.2)) : xm_Run g M_X5_isSame 8 [.ref m, .int p1] (xMp h0 m ad σ) 0 0 Q X := by
  refine xm_Run.of pn_StringTableauModel (Nat.le_of_ble_eq_true rfl) (fun Γ hΓ => ?_)
  obtain ⟨P0, hP0, hp⟩ : ∃ P : Int32 × xM_S → Prop, (∀ o, P o → Q (some (.int o.1)) (xMp h0 m ad o.2)) ∧ P o := ⟨fun o => Q (some (.int o.1)) (xMp h0 m ad o.2), fun _ h => h, hQ⟩
  clear hQ
  show xm_W g Γ 0 [some (.ref m), some (.int p1)] [] (xMp h0 m ad σ) 0 0
  unfold F_X5_isSame at e
  refine xw_ald (show xm_Imp g Γ 0 (xi_ald 0 1) from xs_aload_n hΓ dX5_isSame_0) rfl ?_
  refine xw_ild (show xm_Imp g Γ 1 (xi_ild 1 2) from xs_iload_n hΓ dX5_isSame_1) rfl ?_
  obtain ⟨v1, e1, e⟩ := xo_b_s e
  refine xw_mv1 (show xm_Imp g Γ 2 (xi_vir g 4 M_X5_mayUse 3 1 5) from xs_invV hG hΓ k_X5_mayUse rfl (ci := 4) rfl q3452 q3454 qs110 dX5_isSame_2) rfl (fun Q X hQ => K_X5_mayUse hG hM hB p1 σ e1 hQ) ?_
  refine xw_if (show xm_Imp g Γ 5 (xi_if (fun x => x = 0) 8 10) from xs_if_ne hΓ dX5_isSame_5 (by decide)) (fun c => ?_) (fun c => ?_)
  · rw [if_pos c] at e
    refine xw_psh (v := (.int (0))) (show xm_Imp g Γ 8 (xi_psh (.int (0)) 9) from xs_iconst hΓ dX5_isSame_8 (by decide)) ?_
    exact xw_iret (show xm_Imp g Γ 9 (xi_iret .boolean _) from xs_ireturn hΓ rfl dX5_isSame_9) rfl (hP0 _ (xl_fin e hp))
  · rw [if_neg c] at e
    refine xw_ald (show xm_Imp g Γ 10 (xi_ald 0 11) from xs_aload_n hΓ dX5_isSame_10) rfl ?_
    refine xw_ild (show xm_Imp g Γ 11 (xi_ild 1 12) from xs_iload_n hΓ dX5_isSame_11) rfl ?_
    obtain ⟨v2, e1, e⟩ := xo_b_s e
    refine xw_mu1 (show xm_Imp g Γ 12 (xi_vir g 4 M_X5_compares 7 1 15) from xs_invV hG hΓ k_X5_compares rfl (ci := 4) rfl q3464 q3466 qs112 dX5_isSame_12) rfl (fun Q X hQ => K_X5_compares hG hM hB p1 v1.2 e1 hQ) ?_
    refine xw_ald (show xm_Imp g Γ 15 (xi_ald 0 16) from xs_aload_n hΓ dX5_isSame_15) rfl ?_
    refine xw_mgi (v := (v2.1 38)) (show xm_Imp g Γ 16 (xi_get 4 38 19) from xs_get hG hΓ (ci := 4) (kf := 38) rfl (Nat.le_of_ble_eq_true rfl) q2888 dX5_isSame_16) (fun _ => rfl) rfl ?_
    refine xw_ald (show xm_Imp g Γ 19 (xi_ald 0 20) from xs_aload_n hΓ dX5_isSame_19) rfl ?_
    refine xw_mv0 (show xm_Imp g Γ 20 (xi_vir g 4 M_X5_sets 1 0 23) from xs_invV hG hΓ k_X5_sets rfl (ci := 4) rfl q3073 q3075 qs61 dX5_isSame_20) rfl (fun Q X hQ => K_X5_sets hG hM hB v2 rfl hQ) ?_
    refine xw_ic (show xm_Imp g Γ 23 (xi_ic (fun x y => x = y) 26 30) from xs_icmp_ne hΓ dX5_isSame_23 (by decide)) (fun c => ?_) (fun c => ?_)
    · rw [if_pos c] at e
      refine xw_psh (v := (.int (1))) (show xm_Imp g Γ 26 (xi_psh (.int (1)) 27) from xs_iconst hΓ dX5_isSame_26 (by decide)) ?_
      refine xw_goto (show xm_Imp g Γ 27 (xi_goto 31) from xs_goto hΓ dX5_isSame_27 (by decide)) ?_
      exact xw_iret (show xm_Imp g Γ 31 (xi_iret .boolean _) from xs_ireturn hΓ rfl dX5_isSame_31) rfl (hP0 _ (xl_fin e hp))
    · rw [if_neg c] at e
      refine xw_psh (v := (.int (0))) (show xm_Imp g Γ 30 (xi_psh (.int (0)) 31) from xs_iconst hΓ dX5_isSame_30 (by decide)) ?_
      exact xw_iret (show xm_Imp g Γ 31 (xi_iret .boolean _) from xs_ireturn hΓ rfl dX5_isSame_31) rfl (hP0 _ (xl_fin e hp))
noncomputable def F_X5_overlapOf (p1 : Int32) (σ : xM_S) : Option (Int32 × xM_S) :=
 xo_b (F_X5_compares p1 σ) (fun v1 =>
 (if (v1.1 39) ≤ 0 then
 xo_b (F_X5_powerOf (v1.1 38)) (fun v2 =>
 some (((v1.2 1 0) - v2, v1))) else
 some (((-1), v1))))
set_option maxHeartbeats 4000000 in
theorem K_X5_overlapOf {g : xm_G} (hG : xm_Gw g) {h0 : xm_H} {m : Nat} {ad : Nat → Nat} (hM : xM_ok h0 m ad) (hB : xk_B g h0) (p1 : Int32) (σ : xM_S) {o : Int32 × xM_S} (e : F_X5_overlapOf p1 σ = some o) {Q : xm_P} {X : xm_X} (hQ : Q (some (.int o.1)) (xMp h0 m ad o.2)) : xm_Run g M_X5_overlapOf 8 [.ref m, .int p1] (xMp h0 m ad σ) 0 0 Q X := by
  refine xm_Run.of pn_StringTableauModel (Nat.le_of_ble_eq_true rfl) (fun Γ hΓ => ?_)
  obtain ⟨P0, hP0, hp⟩ : ∃ P : Int32 × xM_S → Prop, (∀ o, P o → Q (some (.int o.1)) (xMp h0 m ad o.2)) ∧ P o := ⟨fun o => Q (some (.int o.1)) (xMp h0 m ad o.2), fun _ h => h, hQ⟩
  clear hQ
  show xm_W g Γ 0 [some (.ref m), some (.int p1)] [] (xMp h0 m ad σ) 0 0
  unfold F_X5_overlapOf at e
  refine xw_ald (show xm_Imp g Γ 0 (xi_ald 0 1) from xs_aload_n hΓ dX5_overlapOf_0) rfl ?_
  refine xw_ild (show xm_Imp g Γ 1 (xi_ild 1 2) from xs_iload_n hΓ dX5_overlapOf_1) rfl ?_
  obtain ⟨v1, e1, e⟩ := xo_b_s e
  refine xw_mu1 (show xm_Imp g Γ 2 (xi_vir g 4 M_X5_compares 7 1 5) from xs_invV hG hΓ k_X5_compares rfl (ci := 4) rfl q3464 q3466 qs112 dX5_overlapOf_2) rfl (fun Q X hQ => K_X5_compares hG hM hB p1 σ e1 hQ) ?_
  refine xw_ald (show xm_Imp g Γ 5 (xi_ald 0 6) from xs_aload_n hΓ dX5_overlapOf_5) rfl ?_
  refine xw_mgi (v := (v1.1 39)) (show xm_Imp g Γ 6 (xi_get 4 39 9) from xs_get hG hΓ (ci := 4) (kf := 39) rfl (Nat.le_of_ble_eq_true rfl) q2889 dX5_overlapOf_6) (fun _ => rfl) rfl ?_
  refine xw_if (show xm_Imp g Γ 9 (xi_if (fun x => x ≤ 0) 16 12) from xs_if_le hΓ dX5_overlapOf_9 (by decide)) (fun c => ?_) (fun c => ?_)
  · rw [if_pos c] at e
    refine xw_ald (show xm_Imp g Γ 16 (xi_ald 0 17) from xs_aload_n hΓ dX5_overlapOf_16) rfl ?_
    refine xw_mga (k := 1) (show xm_Imp g Γ 17 (xi_get 4 1 20) from xs_get hG hΓ (ci := 4) (kf := 1) rfl (Nat.le_of_ble_eq_true rfl) q2851 dX5_overlapOf_17) (fun _ => rfl) ?_
    refine xw_psh (v := (.int (0))) (show xm_Imp g Γ 20 (xi_psh (.int (0)) 21) from xs_iconst hΓ dX5_overlapOf_20 (by decide)) ?_
    refine xw_mial (k := 1) (j := 0) (v := (v1.2 1 0)) (show xm_Imp g Γ 21 (xi_ial 22) from xs_ial hG hΓ dX5_overlapOf_21) hM (by decide) rfl rfl rfl ?_
    refine xw_ald (show xm_Imp g Γ 22 (xi_ald 0 23) from xs_aload_n hΓ dX5_overlapOf_22) rfl ?_
    refine xw_mgi (v := (v1.1 38)) (show xm_Imp g Γ 23 (xi_get 4 38 26) from xs_get hG hΓ (ci := 4) (kf := 38) rfl (Nat.le_of_ble_eq_true rfl) q2888 dX5_overlapOf_23) (fun _ => rfl) rfl ?_
    obtain ⟨v2, e1, e⟩ := xo_b_s e
    refine xw_sv1 (show xm_Imp g Γ 26 (xi_inv g M_X5_powerOf 1 1 29) from xs_invS hG hΓ k_X5_powerOf rfl q3397 q3398 dX5_overlapOf_26) rfl (fun Q X hQ => K_X5_powerOf hG (v1.1 38) e1 hQ) ?_
    refine xw_ii (show xm_Imp g Γ 29 (xi_ii (fun x y => x - y) 30) from xs_isub hΓ dX5_overlapOf_29) ?_
    exact xw_iret (show xm_Imp g Γ 30 (xi_iret .int _) from xs_ireturn hΓ rfl dX5_overlapOf_30) (xn_int _) (hP0 _ (xl_fin e hp))
  · rw [if_neg c] at e
    refine xw_psh (v := (.int (-1))) (show xm_Imp g Γ 12 (xi_psh (.int (-1)) 13) from xs_iconst hΓ dX5_overlapOf_12 (by decide)) ?_
    refine xw_goto (show xm_Imp g Γ 13 (xi_goto 30) from xs_goto hΓ dX5_overlapOf_13 (by decide)) ?_
    exact xw_iret (show xm_Imp g Γ 30 (xi_iret .int _) from xs_ireturn hΓ rfl dX5_overlapOf_30) (xn_int _) (hP0 _ (xl_fin e hp))
noncomputable def F_X5_overlap (p1 : Int32) (σ : xM_S) : Option (Int32 × xM_S) :=
 xo_b (F_X5_mayUse p1 σ) (fun v1 =>
 (if v1.1 = 0 then
 some ((0, v1.2)) else
 xo_b (F_X5_overlapOf p1 v1.2) (fun v2 =>
 some ((v2.1, v2.2)))))
set_option maxHeartbeats 4000000 in
theorem K_X5_overlap {g : xm_G} (hG : xm_Gw g) {h0 : xm_H} {m : Nat} {ad : Nat → Nat} (hM : xM_ok h0 m ad) (hB : xk_B g h0) (p1 : Int32) (σ : xM_S) {o : Int32 × xM_S} (e : F_X5_overlap p1 σ = some o) {Q : xm_P} {X : xm_X} (hQ : Q (some (.int o.1)) (xMp h0 m ad o.2)) : xm_Run g M_X5_overlap 9 [.ref m, .int p1] (xMp h0 m ad σ) 0 0 Q X := by
  refine xm_Run.of pn_StringTableauModel (Nat.le_of_ble_eq_true rfl) (fun Γ hΓ => ?_)
  obtain ⟨P0, hP0, hp⟩ : ∃ P : Int32 × xM_S → Prop, (∀ o, P o → Q (some (.int o.1)) (xMp h0 m ad o.2)) ∧ P o := ⟨fun o => Q (some (.int o.1)) (xMp h0 m ad o.2), fun _ h => h, hQ⟩
  clear hQ
  show xm_W g Γ 0 [some (.ref m), some (.int p1)] [] (xMp h0 m ad σ) 0 0
  unfold F_X5_overlap at e
  refine xw_ald (show xm_Imp g Γ 0 (xi_ald 0 1) from xs_aload_n hΓ dX5_overlap_0) rfl ?_
  refine xw_ild (show xm_Imp g Γ 1 (xi_ild 1 2) from xs_iload_n hΓ dX5_overlap_1) rfl ?_
  obtain ⟨v1, e1, e⟩ := xo_b_s e
  refine xw_mv1 (show xm_Imp g Γ 2 (xi_vir g 4 M_X5_mayUse 3 1 5) from xs_invV hG hΓ k_X5_mayUse rfl (ci := 4) rfl q3452 q3454 qs110 dX5_overlap_2) rfl (fun Q X hQ => K_X5_mayUse hG hM hB p1 σ e1 hQ) ?_
  refine xw_if (show xm_Imp g Γ 5 (xi_if (fun x => x = 0) 16 8) from xs_if_eq hΓ dX5_overlap_5 (by decide)) (fun c => ?_) (fun c => ?_)
  · rw [if_pos c] at e
    refine xw_psh (v := (.int (0))) (show xm_Imp g Γ 16 (xi_psh (.int (0)) 17) from xs_iconst hΓ dX5_overlap_16 (by decide)) ?_
    exact xw_iret (show xm_Imp g Γ 17 (xi_iret .int _) from xs_ireturn hΓ rfl dX5_overlap_17) (xn_int _) (hP0 _ (xl_fin e hp))
  · rw [if_neg c] at e
    refine xw_ald (show xm_Imp g Γ 8 (xi_ald 0 9) from xs_aload_n hΓ dX5_overlap_8) rfl ?_
    refine xw_ild (show xm_Imp g Γ 9 (xi_ild 1 10) from xs_iload_n hΓ dX5_overlap_9) rfl ?_
    obtain ⟨v2, e1, e⟩ := xo_b_s e
    refine xw_mv1 (show xm_Imp g Γ 10 (xi_vir g 4 M_X5_overlapOf 8 1 13) from xs_invV hG hΓ k_X5_overlapOf rfl (ci := 4) rfl q3472 q3474 qs113 dX5_overlap_10) rfl (fun Q X hQ => K_X5_overlapOf hG hM hB p1 v1.2 e1 hQ) ?_
    refine xw_goto (show xm_Imp g Γ 13 (xi_goto 17) from xs_goto hΓ dX5_overlap_13 (by decide)) ?_
    exact xw_iret (show xm_Imp g Γ 17 (xi_iret .int _) from xs_ireturn hΓ rfl dX5_overlap_17) (xn_int _) (hP0 _ (xl_fin e hp))
noncomputable def F_X5_agreeing (p1 : Int32) (σ : xM_S) : Option (Int32 × xM_S) :=
 xo_b (F_X5_mayUse p1 σ) (fun v1 =>
 (if v1.1 = 0 then
 some ((0, v1.2)) else
 xo_b (F_X5_compares p1 v1.2) (fun v2 =>
 some (((v2.1 38), v2)))))
set_option maxHeartbeats 4000000 in
theorem K_X5_agreeing {g : xm_G} (hG : xm_Gw g) {h0 : xm_H} {m : Nat} {ad : Nat → Nat} (hM : xM_ok h0 m ad) (hB : xk_B g h0) (p1 : Int32) (σ : xM_S) {o : Int32 × xM_S} (e : F_X5_agreeing p1 σ = some o) {Q : xm_P} {X : xm_X} (hQ : Q (some (.int o.1)) (xMp h0 m ad o.2)) : xm_Run g M_X5_agreeing 8 [.ref m, .int p1] (xMp h0 m ad σ) 0 0 Q X := by
  refine xm_Run.of pn_StringTableauModel (Nat.le_of_ble_eq_true rfl) (fun Γ hΓ => ?_)
  obtain ⟨P0, hP0, hp⟩ : ∃ P : Int32 × xM_S → Prop, (∀ o, P o → Q (some (.int o.1)) (xMp h0 m ad o.2)) ∧ P o := ⟨fun o => Q (some (.int o.1)) (xMp h0 m ad o.2), fun _ h => h, hQ⟩
  clear hQ
  show xm_W g Γ 0 [some (.ref m), some (.int p1)] [] (xMp h0 m ad σ) 0 0
  unfold F_X5_agreeing at e
  refine xw_ald (show xm_Imp g Γ 0 (xi_ald 0 1) from xs_aload_n hΓ dX5_agreeing_0) rfl ?_
  refine xw_ild (show xm_Imp g Γ 1 (xi_ild 1 2) from xs_iload_n hΓ dX5_agreeing_1) rfl ?_
  obtain ⟨v1, e1, e⟩ := xo_b_s e
  refine xw_mv1 (show xm_Imp g Γ 2 (xi_vir g 4 M_X5_mayUse 3 1 5) from xs_invV hG hΓ k_X5_mayUse rfl (ci := 4) rfl q3452 q3454 qs110 dX5_agreeing_2) rfl (fun Q X hQ => K_X5_mayUse hG hM hB p1 σ e1 hQ) ?_
  refine xw_if (show xm_Imp g Γ 5 (xi_if (fun x => x = 0) 8 10) from xs_if_ne hΓ dX5_agreeing_5 (by decide)) (fun c => ?_) (fun c => ?_)
  · rw [if_pos c] at e
    refine xw_psh (v := (.int (0))) (show xm_Imp g Γ 8 (xi_psh (.int (0)) 9) from xs_iconst hΓ dX5_agreeing_8 (by decide)) ?_
    exact xw_iret (show xm_Imp g Γ 9 (xi_iret .int _) from xs_ireturn hΓ rfl dX5_agreeing_9) (xn_int _) (hP0 _ (xl_fin e hp))
  · rw [if_neg c] at e
    refine xw_ald (show xm_Imp g Γ 10 (xi_ald 0 11) from xs_aload_n hΓ dX5_agreeing_10) rfl ?_
    refine xw_ild (show xm_Imp g Γ 11 (xi_ild 1 12) from xs_iload_n hΓ dX5_agreeing_11) rfl ?_
    obtain ⟨v2, e1, e⟩ := xo_b_s e
    refine xw_mu1 (show xm_Imp g Γ 12 (xi_vir g 4 M_X5_compares 7 1 15) from xs_invV hG hΓ k_X5_compares rfl (ci := 4) rfl q3464 q3466 qs112 dX5_agreeing_12) rfl (fun Q X hQ => K_X5_compares hG hM hB p1 v1.2 e1 hQ) ?_
    refine xw_ald (show xm_Imp g Γ 15 (xi_ald 0 16) from xs_aload_n hΓ dX5_agreeing_15) rfl ?_
    refine xw_mgi (v := (v2.1 38)) (show xm_Imp g Γ 16 (xi_get 4 38 19) from xs_get hG hΓ (ci := 4) (kf := 38) rfl (Nat.le_of_ble_eq_true rfl) q2888 dX5_agreeing_16) (fun _ => rfl) rfl ?_
    exact xw_iret (show xm_Imp g Γ 19 (xi_iret .int _) from xs_ireturn hΓ rfl dX5_agreeing_19) (xn_int _) (hP0 _ (xl_fin e hp))
noncomputable def B_X5_outsiders_75 (l1 : Int32) (l2 : Int32) (l3 : Int32) (σ : xM_S) : Option ((Int32 × Int32 × xM_S) ⊕ (Int32 × xM_S)) :=
 xo_b (F_X5_copies 3 1 σ) (fun v6 =>
 some (Sum.inl (l2, l3 + 1, v6)))
noncomputable def D_X5_outsiders_25 (l1 : Int32) (s : Int32 × Int32 × xM_S) : Option ((Int32 × Int32 × xM_S) ⊕ (Int32 × xM_S)) :=
 (if (s.2.2.2 1 0) ≤ s.2.1 then
 xl_o (some ((s.1, s.2.2))) else
 xo_b (F_X5_takesRow s.2.1 s.2.2) (fun v3 =>
 xo_b (F_X5_takesSlot l1 v3) (fun v4 =>
 xo_b (F_X5_setOf (v3.1 6) (v3.1 7) v4) (fun v5 =>
 B_X5_outsiders_75 l1 (if v5.1 = (-1) then s.1 ||| (1 <<< (s.2.1 &&& 31)) else s.1) s.2.1 v5.2))))
noncomputable def L_X5_outsiders_25 (l1 : Int32) (s : Int32 × Int32 × xM_S) : Option (Int32 × xM_S) := xl_loop (D_X5_outsiders_25 l1) s
noncomputable def F_X5_outsiders (p1 : Int32) (σ : xM_S) : Option (Int32 × xM_S) :=
 xo_b (F_X5_mayUse p1 σ) (fun v1 =>
 (if v1.1 = 0 then
 some ((0, v1.2)) else
 xo_b (F_X5_copies 1 3 v1.2) (fun v2 =>
 L_X5_outsiders_25 p1 (0, 0, v2))))
set_option maxHeartbeats 4000000 in
theorem K_X5_outsiders {g : xm_G} (hG : xm_Gw g) {h0 : xm_H} {m : Nat} {ad : Nat → Nat} (hM : xM_ok h0 m ad) (hB : xk_B g h0) (p1 : Int32) (σ : xM_S) {o : Int32 × xM_S} (e : F_X5_outsiders p1 σ = some o) {Q : xm_P} {X : xm_X} (hQ : Q (some (.int o.1)) (xMp h0 m ad o.2)) : xm_Run g M_X5_outsiders 7 [.ref m, .int p1] (xMp h0 m ad σ) 0 0 Q X := by
  refine xm_Run.of pn_StringTableauModel (Nat.le_of_ble_eq_true rfl) (fun Γ hΓ => ?_)
  obtain ⟨P0, hP0, hp⟩ : ∃ P : Int32 × xM_S → Prop, (∀ o, P o → Q (some (.int o.1)) (xMp h0 m ad o.2)) ∧ P o := ⟨fun o => Q (some (.int o.1)) (xMp h0 m ad o.2), fun _ h => h, hQ⟩
  clear hQ
  show xm_W g Γ 0 [some (.ref m), some (.int p1), none, none, none, none] [] (xMp h0 m ad σ) 0 0
  have hL_25 : ∀ (l1 : Int32) (s : Int32 × Int32 × xM_S) (o : Int32 × xM_S), L_X5_outsiders_25 l1 s = some o → P0 o → xm_W g Γ 25 [some (.ref m), some (.int l1), some (.int s.1), some (.int s.2.1), none, none] [] (xMp h0 m ad s.2.2) 0 0 := by
    intro l1
    refine xl_rule (WS := fun s : Int32 × Int32 × xM_S => xm_W g Γ 25 [some (.ref m), some (.int l1), some (.int s.1), some (.int s.2.1), none, none] [] (xMp h0 m ad s.2.2) 0 0) ?_
    intro s o e hp
    obtain ⟨P1, hP1, hp⟩ : ∃ P : (Int32 × Int32 × xM_S) ⊕ (Int32 × xM_S) → Prop, (∀ o, P o → xl_P (fun s : Int32 × Int32 × xM_S => xm_W g Γ 25 [some (.ref m), some (.int l1), some (.int s.1), some (.int s.2.1), none, none] [] (xMp h0 m ad s.2.2) 0 0) P0 o) ∧ P o := ⟨_, fun _ h => h, hp⟩
    have hB_75 : ∀ (l2 : Int32) (l3 : Int32) (σ : xM_S) (o : (Int32 × Int32 × xM_S) ⊕ (Int32 × xM_S)), B_X5_outsiders_75 l1 l2 l3 σ = some o → P1 o → xm_W g Γ 75 [some (.ref m), some (.int l1), some (.int l2), some (.int l3), none, none] [] (xMp h0 m ad σ) 0 0 := by
      intro l2 l3 σ o e hp
      unfold B_X5_outsiders_75 at e
      refine xw_ald (show xm_Imp g Γ 75 (xi_ald 0 76) from xs_aload_n hΓ dX5_outsiders_75) rfl ?_
      refine xw_mga (k := 3) (show xm_Imp g Γ 76 (xi_get 4 3 79) from xs_get hG hΓ (ci := 4) (kf := 3) rfl (Nat.le_of_ble_eq_true rfl) q2853 dX5_outsiders_76) (fun _ => rfl) ?_
      refine xw_ald (show xm_Imp g Γ 79 (xi_ald 0 80) from xs_aload_n hΓ dX5_outsiders_79) rfl ?_
      refine xw_mga (k := 1) (show xm_Imp g Γ 80 (xi_get 4 1 83) from xs_get hG hΓ (ci := 4) (kf := 1) rfl (Nat.le_of_ble_eq_true rfl) q2851 dX5_outsiders_80) (fun _ => rfl) ?_
      obtain ⟨v6, e1, e⟩ := xo_b_s e
      refine xw_su2 (show xm_Imp g Γ 83 (xi_inv g M_X5_copies 1 2 86) from xs_invS hG hΓ k_X5_copies rfl q3011 q3012 dX5_outsiders_83) rfl (fun Q X hQ => K_X5_copies hG hM hB 3 1 (by decide) (by decide) σ e1 hQ) ?_
      refine xw_inc (v := (1)) (ls' := [some (.ref m), some (.int l1), some (.int l2), some (.int (l3 + 1)), none, none]) (show xm_Imp g Γ 86 (xi_inc 3 (1) 89) from xs_iinc hΓ dX5_outsiders_86 (by decide) (Nat.le_of_ble_eq_true rfl)) rfl rfl ?_
      refine xw_goto (show xm_Imp g Γ 89 (xi_goto 25) from xs_goto hΓ dX5_outsiders_89 (by decide)) ?_
      have hq := xl_P_inl (hP1 _ (xl_fin e hp)); exact hq
    unfold D_X5_outsiders_25 at e
    refine xw_ild (show xm_Imp g Γ 25 (xi_ild 3 26) from xs_iload_n hΓ dX5_outsiders_25) rfl ?_
    refine xw_ald (show xm_Imp g Γ 26 (xi_ald 0 27) from xs_aload_n hΓ dX5_outsiders_26) rfl ?_
    refine xw_mga (k := 1) (show xm_Imp g Γ 27 (xi_get 4 1 30) from xs_get hG hΓ (ci := 4) (kf := 1) rfl (Nat.le_of_ble_eq_true rfl) q2851 dX5_outsiders_27) (fun _ => rfl) ?_
    refine xw_psh (v := (.int (0))) (show xm_Imp g Γ 30 (xi_psh (.int (0)) 31) from xs_iconst hΓ dX5_outsiders_30 (by decide)) ?_
    refine xw_mial (k := 1) (j := 0) (v := (s.2.2.2 1 0)) (show xm_Imp g Γ 31 (xi_ial 32) from xs_ial hG hΓ dX5_outsiders_31) hM (by decide) rfl rfl rfl ?_
    refine xw_ic (show xm_Imp g Γ 32 (xi_ic (fun x y => y ≤ x) 92 35) from xs_icmp_ge hΓ dX5_outsiders_32 (by decide)) (fun c => ?_) (fun c => ?_)
    · rw [if_pos c] at e
      obtain ⟨_, e, hp⟩ := xl_o_s e (hP1 _ hp)
      refine xw_ild (show xm_Imp g Γ 92 (xi_ild 2 93) from xs_iload_n hΓ dX5_outsiders_92) rfl ?_
      exact xw_iret (show xm_Imp g Γ 93 (xi_iret .int _) from xs_ireturn hΓ rfl dX5_outsiders_93) (xn_int _) (hP0 _ (xl_fin e hp))
    · rw [if_neg c] at e
      refine xw_ald (show xm_Imp g Γ 35 (xi_ald 0 36) from xs_aload_n hΓ dX5_outsiders_35) rfl ?_
      refine xw_ild (show xm_Imp g Γ 36 (xi_ild 3 37) from xs_iload_n hΓ dX5_outsiders_36) rfl ?_
      obtain ⟨v3, e1, e⟩ := xo_b_s e
      refine xw_mu1 (show xm_Imp g Γ 37 (xi_vir g 4 M_X5_takesRow 2 1 40) from xs_invV hG hΓ k_X5_takesRow rfl (ci := 4) rfl q3018 q3020 qs51 dX5_outsiders_37) rfl (fun Q X hQ => K_X5_takesRow hG hM hB s.2.1 s.2.2 e1 hQ) ?_
      refine xw_ald (show xm_Imp g Γ 40 (xi_ald 0 41) from xs_aload_n hΓ dX5_outsiders_40) rfl ?_
      refine xw_mgi (v := (v3.1 6)) (show xm_Imp g Γ 41 (xi_get 4 6 44) from xs_get hG hΓ (ci := 4) (kf := 6) rfl (Nat.le_of_ble_eq_true rfl) q2856 dX5_outsiders_41) (fun _ => rfl) rfl ?_
      refine xw_ist (ls' := [some (.ref m), some (.int l1), some (.int s.1), some (.int s.2.1), some (.int (v3.1 6)), none]) (show xm_Imp g Γ 44 (xi_ist 4 46) from xs_istore hΓ dX5_outsiders_44 (Nat.le_of_ble_eq_true rfl)) rfl ?_
      refine xw_ald (show xm_Imp g Γ 46 (xi_ald 0 47) from xs_aload_n hΓ dX5_outsiders_46) rfl ?_
      refine xw_mgi (v := (v3.1 7)) (show xm_Imp g Γ 47 (xi_get 4 7 50) from xs_get hG hΓ (ci := 4) (kf := 7) rfl (Nat.le_of_ble_eq_true rfl) q2857 dX5_outsiders_47) (fun _ => rfl) rfl ?_
      refine xw_ist (ls' := [some (.ref m), some (.int l1), some (.int s.1), some (.int s.2.1), some (.int (v3.1 6)), some (.int (v3.1 7))]) (show xm_Imp g Γ 50 (xi_ist 5 52) from xs_istore hΓ dX5_outsiders_50 (Nat.le_of_ble_eq_true rfl)) rfl ?_
      refine xw_ald (show xm_Imp g Γ 52 (xi_ald 0 53) from xs_aload_n hΓ dX5_outsiders_52) rfl ?_
      refine xw_ild (show xm_Imp g Γ 53 (xi_ild 1 54) from xs_iload_n hΓ dX5_outsiders_53) rfl ?_
      obtain ⟨v4, e1, e⟩ := xo_b_s e
      refine xw_mu1 (show xm_Imp g Γ 54 (xi_vir g 4 M_X5_takesSlot 1 1 57) from xs_invV hG hΓ k_X5_takesSlot rfl (ci := 4) rfl q3456 q3458 qs111 dX5_outsiders_54) rfl (fun Q X hQ => K_X5_takesSlot hG hM hB l1 v3 e1 hQ) ?_
      refine xw_ald (show xm_Imp g Γ 57 (xi_ald 0 58) from xs_aload_n hΓ dX5_outsiders_57) rfl ?_
      refine xw_ild (show xm_Imp g Γ 58 (xi_ild 4 60) from xs_iload hΓ dX5_outsiders_58) rfl ?_
      refine xw_ild (show xm_Imp g Γ 60 (xi_ild 5 62) from xs_iload hΓ dX5_outsiders_60) rfl ?_
      obtain ⟨v5, e1, e⟩ := xo_b_s e
      refine xw_mv2 (show xm_Imp g Γ 62 (xi_vir g 4 M_X5_setOf 6 2 65) from xs_invV hG hΓ k_X5_setOf rfl (ci := 4) rfl q3093 q3095 qs65 dX5_outsiders_62) rfl (fun Q X hQ => K_X5_setOf hG hM hB (v3.1 6) (v3.1 7) v4 e1 hQ) ?_
      refine xw_psh (v := (.int (-1))) (show xm_Imp g Γ 65 (xi_psh (.int (-1)) 66) from xs_iconst hΓ dX5_outsiders_65 (by decide)) ?_
      refine xw_ic (show xm_Imp g Γ 66 (xi_ic (fun x y => x = y) 69 75) from xs_icmp_ne hΓ dX5_outsiders_66 (by decide)) (fun c => ?_) (fun c => ?_)
      · rw [if_pos c] at e
        refine xw_ild (show xm_Imp g Γ 69 (xi_ild 2 70) from xs_iload_n hΓ dX5_outsiders_69) rfl ?_
        refine xw_psh (v := (.int (1))) (show xm_Imp g Γ 70 (xi_psh (.int (1)) 71) from xs_iconst hΓ dX5_outsiders_70 (by decide)) ?_
        refine xw_ild (show xm_Imp g Γ 71 (xi_ild 3 72) from xs_iload_n hΓ dX5_outsiders_71) rfl ?_
        refine xw_ii (show xm_Imp g Γ 72 (xi_ii (fun x y => x <<< (y &&& 31)) 73) from xs_ishl hΓ dX5_outsiders_72) ?_
        refine xw_ii (show xm_Imp g Γ 73 (xi_ii (fun x y => x ||| y) 74) from xs_ior hΓ dX5_outsiders_73) ?_
        refine xw_ist (ls' := [some (.ref m), some (.int l1), some (.int (s.1 ||| (1 <<< (s.2.1 &&& 31)))), some (.int s.2.1), some (.int (v3.1 6)), some (.int (v3.1 7))]) (show xm_Imp g Γ 74 (xi_ist 2 75) from xs_istore_n hΓ dX5_outsiders_74 (Nat.le_of_ble_eq_true rfl)) rfl ?_
        exact xm_lx (hB_75 _ _ _ _ e hp) (And.intro rfl (And.intro rfl (And.intro rfl (And.intro rfl (trivial)))))
      · rw [if_neg c] at e
        exact xm_lx (hB_75 _ _ _ _ e hp) (And.intro rfl (And.intro rfl (And.intro rfl (And.intro rfl (trivial)))))
  unfold F_X5_outsiders at e
  refine xw_ald (show xm_Imp g Γ 0 (xi_ald 0 1) from xs_aload_n hΓ dX5_outsiders_0) rfl ?_
  refine xw_ild (show xm_Imp g Γ 1 (xi_ild 1 2) from xs_iload_n hΓ dX5_outsiders_1) rfl ?_
  obtain ⟨v1, e1, e⟩ := xo_b_s e
  refine xw_mv1 (show xm_Imp g Γ 2 (xi_vir g 4 M_X5_mayUse 3 1 5) from xs_invV hG hΓ k_X5_mayUse rfl (ci := 4) rfl q3452 q3454 qs110 dX5_outsiders_2) rfl (fun Q X hQ => K_X5_mayUse hG hM hB p1 σ e1 hQ) ?_
  refine xw_if (show xm_Imp g Γ 5 (xi_if (fun x => x = 0) 8 10) from xs_if_ne hΓ dX5_outsiders_5 (by decide)) (fun c => ?_) (fun c => ?_)
  · rw [if_pos c] at e
    refine xw_psh (v := (.int (0))) (show xm_Imp g Γ 8 (xi_psh (.int (0)) 9) from xs_iconst hΓ dX5_outsiders_8 (by decide)) ?_
    exact xw_iret (show xm_Imp g Γ 9 (xi_iret .int _) from xs_ireturn hΓ rfl dX5_outsiders_9) (xn_int _) (hP0 _ (xl_fin e hp))
  · rw [if_neg c] at e
    refine xw_psh (v := (.int (0))) (show xm_Imp g Γ 10 (xi_psh (.int (0)) 11) from xs_iconst hΓ dX5_outsiders_10 (by decide)) ?_
    refine xw_ist (ls' := [some (.ref m), some (.int p1), some (.int 0), none, none, none]) (show xm_Imp g Γ 11 (xi_ist 2 12) from xs_istore_n hΓ dX5_outsiders_11 (Nat.le_of_ble_eq_true rfl)) rfl ?_
    refine xw_ald (show xm_Imp g Γ 12 (xi_ald 0 13) from xs_aload_n hΓ dX5_outsiders_12) rfl ?_
    refine xw_mga (k := 1) (show xm_Imp g Γ 13 (xi_get 4 1 16) from xs_get hG hΓ (ci := 4) (kf := 1) rfl (Nat.le_of_ble_eq_true rfl) q2851 dX5_outsiders_13) (fun _ => rfl) ?_
    refine xw_ald (show xm_Imp g Γ 16 (xi_ald 0 17) from xs_aload_n hΓ dX5_outsiders_16) rfl ?_
    refine xw_mga (k := 3) (show xm_Imp g Γ 17 (xi_get 4 3 20) from xs_get hG hΓ (ci := 4) (kf := 3) rfl (Nat.le_of_ble_eq_true rfl) q2853 dX5_outsiders_17) (fun _ => rfl) ?_
    obtain ⟨v2, e1, e⟩ := xo_b_s e
    refine xw_su2 (show xm_Imp g Γ 20 (xi_inv g M_X5_copies 1 2 23) from xs_invS hG hΓ k_X5_copies rfl q3011 q3012 dX5_outsiders_20) rfl (fun Q X hQ => K_X5_copies hG hM hB 1 3 (by decide) (by decide) v1.2 e1 hQ) ?_
    refine xw_psh (v := (.int (0))) (show xm_Imp g Γ 23 (xi_psh (.int (0)) 24) from xs_iconst hΓ dX5_outsiders_23 (by decide)) ?_
    refine xw_ist (ls' := [some (.ref m), some (.int p1), some (.int 0), some (.int 0), none, none]) (show xm_Imp g Γ 24 (xi_ist 3 25) from xs_istore_n hΓ dX5_outsiders_24 (Nat.le_of_ble_eq_true rfl)) rfl ?_
    exact hL_25 _ _ _ e hp
noncomputable def B_X5_innerSquare_17 (s0 : Int32) (σ : xM_S) : Option (UInt32 × xM_S) :=
 (if s0 = (-1) then
 some ((FP.fconst0, σ)) else
 xo_b (xo_g (vf_n32 (FP.fdiv FP.fconst1 (FP.i2f (1 <<< (s0 &&& 31)))))) (fun u2 =>
 some ((FP.fdiv FP.fconst1 (FP.i2f (1 <<< (s0 &&& 31))), σ))))
noncomputable def F_X5_innerSquare (p1 : Int32) (σ : xM_S) : Option (UInt32 × xM_S) :=
 xo_b (F_X5_mayUse p1 σ) (fun v1 =>
 (if v1.1 = 0 then
 B_X5_innerSquare_17 (-1) v1.2 else
 xo_b (F_X5_overlapOf p1 v1.2) (fun v3 =>
 B_X5_innerSquare_17 v3.1 v3.2)))
set_option maxHeartbeats 4000000 in
theorem K_X5_innerSquare {g : xm_G} (hG : xm_Gw g) {h0 : xm_H} {m : Nat} {ad : Nat → Nat} (hM : xM_ok h0 m ad) (hB : xk_B g h0) (p1 : Int32) (σ : xM_S) {o : UInt32 × xM_S} (e : F_X5_innerSquare p1 σ = some o) {Q : xm_P} {X : xm_X} (hQ : Q (some (.float o.1)) (xMp h0 m ad o.2)) : xm_Run g M_X5_innerSquare 9 [.ref m, .int p1] (xMp h0 m ad σ) 0 0 Q X := by
  refine xm_Run.of pn_StringTableauModel (Nat.le_of_ble_eq_true rfl) (fun Γ hΓ => ?_)
  obtain ⟨P0, hP0, hp⟩ : ∃ P : UInt32 × xM_S → Prop, (∀ o, P o → Q (some (.float o.1)) (xMp h0 m ad o.2)) ∧ P o := ⟨fun o => Q (some (.float o.1)) (xMp h0 m ad o.2), fun _ h => h, hQ⟩
  clear hQ
  show xm_W g Γ 0 [some (.ref m), some (.int p1), none] [] (xMp h0 m ad σ) 0 0
  have hB_17 : ∀ (s0 : Int32) (σ : xM_S) (o : UInt32 × xM_S), B_X5_innerSquare_17 s0 σ = some o → P0 o → xm_W g Γ 17 [none, none, none] [.int s0] (xMp h0 m ad σ) 0 0 := by
    intro s0 σ o e hp
    unfold B_X5_innerSquare_17 at e
    refine xw_ist (ls' := [none, none, some (.int s0)]) (show xm_Imp g Γ 17 (xi_ist 2 18) from xs_istore_n hΓ dX5_innerSquare_17 (Nat.le_of_ble_eq_true rfl)) rfl ?_
    refine xw_ild (show xm_Imp g Γ 18 (xi_ild 2 19) from xs_iload_n hΓ dX5_innerSquare_18) rfl ?_
    refine xw_psh (v := (.int (-1))) (show xm_Imp g Γ 19 (xi_psh (.int (-1)) 20) from xs_iconst hΓ dX5_innerSquare_19 (by decide)) ?_
    refine xw_ic (show xm_Imp g Γ 20 (xi_ic (fun x y => x = y) 23 27) from xs_icmp_ne hΓ dX5_innerSquare_20 (by decide)) (fun c => ?_) (fun c => ?_)
    · rw [if_pos c] at e
      refine xw_psh (v := (.float FP.fconst0)) (show xm_Imp g Γ 23 (xi_psh (.float FP.fconst0) 24) from xs_fconst0 hΓ dX5_innerSquare_23) ?_
      refine xw_goto (show xm_Imp g Γ 24 (xi_goto 33) from xs_goto hΓ dX5_innerSquare_24 (by decide)) ?_
      exact xw_fret (show xm_Imp g Γ 33 (xi_fret _) from xs_freturn hΓ rfl dX5_innerSquare_33) (hP0 _ (xl_fin e hp))
    · rw [if_neg c] at e
      refine xw_psh (v := (.float FP.fconst1)) (show xm_Imp g Γ 27 (xi_psh (.float FP.fconst1) 28) from xs_fconst1 hΓ dX5_innerSquare_27) ?_
      refine xw_psh (v := (.int (1))) (show xm_Imp g Γ 28 (xi_psh (.int (1)) 29) from xs_iconst hΓ dX5_innerSquare_28 (by decide)) ?_
      refine xw_ild (show xm_Imp g Γ 29 (xi_ild 2 30) from xs_iload_n hΓ dX5_innerSquare_29) rfl ?_
      refine xw_ii (show xm_Imp g Γ 30 (xi_ii (fun x y => x <<< (y &&& 31)) 31) from xs_ishl hΓ dX5_innerSquare_30) ?_
      refine xw_i2f (show xm_Imp g Γ 31 (xi_i2f 32) from xs_i2f hΓ dX5_innerSquare_31) ?_
      obtain ⟨u2, e1, e⟩ := xo_b_s e
      refine xw_fdiv (show xm_Imp g Γ 32 (xi_fdiv 33) from xs_fdiv hΓ dX5_innerSquare_32) (xo_g_s e1) ?_
      exact xw_fret (show xm_Imp g Γ 33 (xi_fret _) from xs_freturn hΓ rfl dX5_innerSquare_33) (hP0 _ (xl_fin e hp))
  unfold F_X5_innerSquare at e
  refine xw_ald (show xm_Imp g Γ 0 (xi_ald 0 1) from xs_aload_n hΓ dX5_innerSquare_0) rfl ?_
  refine xw_ild (show xm_Imp g Γ 1 (xi_ild 1 2) from xs_iload_n hΓ dX5_innerSquare_1) rfl ?_
  obtain ⟨v1, e1, e⟩ := xo_b_s e
  refine xw_mv1 (show xm_Imp g Γ 2 (xi_vir g 4 M_X5_mayUse 3 1 5) from xs_invV hG hΓ k_X5_mayUse rfl (ci := 4) rfl q3452 q3454 qs110 dX5_innerSquare_2) rfl (fun Q X hQ => K_X5_mayUse hG hM hB p1 σ e1 hQ) ?_
  refine xw_if (show xm_Imp g Γ 5 (xi_if (fun x => x = 0) 16 8) from xs_if_eq hΓ dX5_innerSquare_5 (by decide)) (fun c => ?_) (fun c => ?_)
  · rw [if_pos c] at e
    refine xw_psh (v := (.int (-1))) (show xm_Imp g Γ 16 (xi_psh (.int (-1)) 17) from xs_iconst hΓ dX5_innerSquare_16 (by decide)) ?_
    exact xm_lx (hB_17 _ _ _ e hp) (trivial)
  · rw [if_neg c] at e
    refine xw_ald (show xm_Imp g Γ 8 (xi_ald 0 9) from xs_aload_n hΓ dX5_innerSquare_8) rfl ?_
    refine xw_ild (show xm_Imp g Γ 9 (xi_ild 1 10) from xs_iload_n hΓ dX5_innerSquare_9) rfl ?_
    obtain ⟨v3, e1, e⟩ := xo_b_s e
    refine xw_mv1 (show xm_Imp g Γ 10 (xi_vir g 4 M_X5_overlapOf 8 1 13) from xs_invV hG hΓ k_X5_overlapOf rfl (ci := 4) rfl q3472 q3474 qs113 dX5_innerSquare_10) rfl (fun Q X hQ => K_X5_overlapOf hG hM hB p1 v1.2 e1 hQ) ?_
    refine xw_goto (show xm_Imp g Γ 13 (xi_goto 17) from xs_goto hΓ dX5_innerSquare_13 (by decide)) ?_
    exact xm_lx (hB_17 _ _ _ e hp) (trivial)
