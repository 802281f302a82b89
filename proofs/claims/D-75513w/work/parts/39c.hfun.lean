/-! METHODS ON KNOWN CELLS as functions (printed by gen/mkhfun.py) -/
set_option maxRecDepth 100000
noncomputable def F_X1_gateOf (g : xm_G) (p0 : Int32) (h : xm_H) : Option (Option Nat) :=
 (if p0 = 0 then
 some (some (xm_la g 0)) else
 (if p0 = 1 then
 some (some (xm_la g 1)) else
 (if p0 = 2 then
 some (some (xm_la g 2)) else
 (if p0 = 3 then
 some (some (xm_la g 3)) else
 (if p0 = 4 then
 some (some (xm_la g 4)) else
 (if p0 = 5 then
 some (some (xm_la g 5)) else
 (if p0 = 6 then
 some (some (xm_la g 6)) else
 (if p0 = 7 then
 some (some (xm_la g 7)) else
 some (some (xm_la g 8))))))))))
set_option maxHeartbeats 4000000 in
theorem K_X1_gateOf {g : xm_G} (hG : xm_Gw g) (p0 : Int32) (h : xm_H) {o : Option Nat} (e : F_X1_gateOf g p0 h = some o) {Q : xm_P} {X : xm_X} (hQ : Q (some (va_rf o)) h) : xm_Run g M_X1_gateOf 6 [.int p0] h 0 0 Q X := by
  refine xm_Run.ofN (ls := [some (.int p0)]) rfl pn_StringTableau (Nat.le_of_ble_eq_true rfl) rfl (fun Γ hΓ hN => ?_)
  obtain ⟨P0, hP0, hp⟩ : ∃ P : Option Nat → Prop, (∀ o, P o → Q (some (va_rf o)) h) ∧ P o := ⟨fun o => Q (some (va_rf o)) h, fun _ h => h, hQ⟩
  clear hQ
  show xm_W g Γ 0 [some (.int p0)] [] h 0 0
  unfold F_X1_gateOf at e
  refine xw_ild (show xm_Imp g Γ 0 (xi_ild 0 1) from xs_iload_n hΓ dX1_gateOf_0) rfl ?_
  by_cases c0 : p0 = 0
  · rw [if_pos c0] at e
    refine xw_tsi (show xm_Imp g Γ 1 (xi_tsw 0 7 [48, 56, 64, 72, 80, 88, 96, 104] 112) from xs_tsw hΓ dX1_gateOf_1 (by decide) (by decide) (by decide)) (i := 0) rfl (by rw [c0]; decide) (by decide) ?_
    refine xw_la (show xm_Imp g Γ 48 (xi_la (.ref (xm_la g 0)) 53) from xs_indy hG hΓ hN (0 : Fin 11) rfl rfl dX1_gateOf_48) rfl ?_
    refine xw_goto (show xm_Imp g Γ 53 (xi_goto 117) from xs_goto hΓ dX1_gateOf_53 (by decide)) ?_
    have hq := hP0 _ (xl_fin e hp)
    exact xw_aret (show xm_Imp g Γ 117 (xi_aret _) from xs_areturn hΓ rfl (Or.inl ⟨_, rfl⟩) dX1_gateOf_117) hq
  rw [if_neg c0] at e
  by_cases c1 : p0 = 1
  · rw [if_pos c1] at e
    refine xw_tsi (show xm_Imp g Γ 1 (xi_tsw 0 7 [48, 56, 64, 72, 80, 88, 96, 104] 112) from xs_tsw hΓ dX1_gateOf_1 (by decide) (by decide) (by decide)) (i := 1) rfl (by rw [c1]; decide) (by decide) ?_
    refine xw_la (show xm_Imp g Γ 56 (xi_la (.ref (xm_la g 1)) 61) from xs_indy hG hΓ hN (1 : Fin 11) rfl rfl dX1_gateOf_56) rfl ?_
    refine xw_goto (show xm_Imp g Γ 61 (xi_goto 117) from xs_goto hΓ dX1_gateOf_61 (by decide)) ?_
    have hq := hP0 _ (xl_fin e hp)
    exact xw_aret (show xm_Imp g Γ 117 (xi_aret _) from xs_areturn hΓ rfl (Or.inl ⟨_, rfl⟩) dX1_gateOf_117) hq
  rw [if_neg c1] at e
  by_cases c2 : p0 = 2
  · rw [if_pos c2] at e
    refine xw_tsi (show xm_Imp g Γ 1 (xi_tsw 0 7 [48, 56, 64, 72, 80, 88, 96, 104] 112) from xs_tsw hΓ dX1_gateOf_1 (by decide) (by decide) (by decide)) (i := 2) rfl (by rw [c2]; decide) (by decide) ?_
    refine xw_la (show xm_Imp g Γ 64 (xi_la (.ref (xm_la g 2)) 69) from xs_indy hG hΓ hN (2 : Fin 11) rfl rfl dX1_gateOf_64) rfl ?_
    refine xw_goto (show xm_Imp g Γ 69 (xi_goto 117) from xs_goto hΓ dX1_gateOf_69 (by decide)) ?_
    have hq := hP0 _ (xl_fin e hp)
    exact xw_aret (show xm_Imp g Γ 117 (xi_aret _) from xs_areturn hΓ rfl (Or.inl ⟨_, rfl⟩) dX1_gateOf_117) hq
  rw [if_neg c2] at e
  by_cases c3 : p0 = 3
  · rw [if_pos c3] at e
    refine xw_tsi (show xm_Imp g Γ 1 (xi_tsw 0 7 [48, 56, 64, 72, 80, 88, 96, 104] 112) from xs_tsw hΓ dX1_gateOf_1 (by decide) (by decide) (by decide)) (i := 3) rfl (by rw [c3]; decide) (by decide) ?_
    refine xw_la (show xm_Imp g Γ 72 (xi_la (.ref (xm_la g 3)) 77) from xs_indy hG hΓ hN (3 : Fin 11) rfl rfl dX1_gateOf_72) rfl ?_
    refine xw_goto (show xm_Imp g Γ 77 (xi_goto 117) from xs_goto hΓ dX1_gateOf_77 (by decide)) ?_
    have hq := hP0 _ (xl_fin e hp)
    exact xw_aret (show xm_Imp g Γ 117 (xi_aret _) from xs_areturn hΓ rfl (Or.inl ⟨_, rfl⟩) dX1_gateOf_117) hq
  rw [if_neg c3] at e
  by_cases c4 : p0 = 4
  · rw [if_pos c4] at e
    refine xw_tsi (show xm_Imp g Γ 1 (xi_tsw 0 7 [48, 56, 64, 72, 80, 88, 96, 104] 112) from xs_tsw hΓ dX1_gateOf_1 (by decide) (by decide) (by decide)) (i := 4) rfl (by rw [c4]; decide) (by decide) ?_
    refine xw_la (show xm_Imp g Γ 80 (xi_la (.ref (xm_la g 4)) 85) from xs_indy hG hΓ hN (4 : Fin 11) rfl rfl dX1_gateOf_80) rfl ?_
    refine xw_goto (show xm_Imp g Γ 85 (xi_goto 117) from xs_goto hΓ dX1_gateOf_85 (by decide)) ?_
    have hq := hP0 _ (xl_fin e hp)
    exact xw_aret (show xm_Imp g Γ 117 (xi_aret _) from xs_areturn hΓ rfl (Or.inl ⟨_, rfl⟩) dX1_gateOf_117) hq
  rw [if_neg c4] at e
  by_cases c5 : p0 = 5
  · rw [if_pos c5] at e
    refine xw_tsi (show xm_Imp g Γ 1 (xi_tsw 0 7 [48, 56, 64, 72, 80, 88, 96, 104] 112) from xs_tsw hΓ dX1_gateOf_1 (by decide) (by decide) (by decide)) (i := 5) rfl (by rw [c5]; decide) (by decide) ?_
    refine xw_la (show xm_Imp g Γ 88 (xi_la (.ref (xm_la g 5)) 93) from xs_indy hG hΓ hN (5 : Fin 11) rfl rfl dX1_gateOf_88) rfl ?_
    refine xw_goto (show xm_Imp g Γ 93 (xi_goto 117) from xs_goto hΓ dX1_gateOf_93 (by decide)) ?_
    have hq := hP0 _ (xl_fin e hp)
    exact xw_aret (show xm_Imp g Γ 117 (xi_aret _) from xs_areturn hΓ rfl (Or.inl ⟨_, rfl⟩) dX1_gateOf_117) hq
  rw [if_neg c5] at e
  by_cases c6 : p0 = 6
  · rw [if_pos c6] at e
    refine xw_tsi (show xm_Imp g Γ 1 (xi_tsw 0 7 [48, 56, 64, 72, 80, 88, 96, 104] 112) from xs_tsw hΓ dX1_gateOf_1 (by decide) (by decide) (by decide)) (i := 6) rfl (by rw [c6]; decide) (by decide) ?_
    refine xw_la (show xm_Imp g Γ 96 (xi_la (.ref (xm_la g 6)) 101) from xs_indy hG hΓ hN (6 : Fin 11) rfl rfl dX1_gateOf_96) rfl ?_
    refine xw_goto (show xm_Imp g Γ 101 (xi_goto 117) from xs_goto hΓ dX1_gateOf_101 (by decide)) ?_
    have hq := hP0 _ (xl_fin e hp)
    exact xw_aret (show xm_Imp g Γ 117 (xi_aret _) from xs_areturn hΓ rfl (Or.inl ⟨_, rfl⟩) dX1_gateOf_117) hq
  rw [if_neg c6] at e
  by_cases c7 : p0 = 7
  · rw [if_pos c7] at e
    refine xw_tsi (show xm_Imp g Γ 1 (xi_tsw 0 7 [48, 56, 64, 72, 80, 88, 96, 104] 112) from xs_tsw hΓ dX1_gateOf_1 (by decide) (by decide) (by decide)) (i := 7) rfl (by rw [c7]; decide) (by decide) ?_
    refine xw_la (show xm_Imp g Γ 104 (xi_la (.ref (xm_la g 7)) 109) from xs_indy hG hΓ hN (7 : Fin 11) rfl rfl dX1_gateOf_104) rfl ?_
    refine xw_goto (show xm_Imp g Γ 109 (xi_goto 117) from xs_goto hΓ dX1_gateOf_109 (by decide)) ?_
    have hq := hP0 _ (xl_fin e hp)
    exact xw_aret (show xm_Imp g Γ 117 (xi_aret _) from xs_areturn hΓ rfl (Or.inl ⟨_, rfl⟩) dX1_gateOf_117) hq
  rw [if_neg c7] at e
  refine xw_tsd (show xm_Imp g Γ 1 (xi_tsw 0 7 [48, 56, 64, 72, 80, 88, 96, 104] 112) from xs_tsw hΓ dX1_gateOf_1 (by decide) (by decide) (by decide)) (xm_tsd p0 [(0 : Int32), (1 : Int32), (2 : Int32), (3 : Int32), (4 : Int32), (5 : Int32), (6 : Int32), (7 : Int32)] (by decide) (And.intro c0 (And.intro c1 (And.intro c2 (And.intro c3 (And.intro c4 (And.intro c5 (And.intro c6 (And.intro c7 (trivial)))))))))) (by decide) ?_
  refine xw_la (show xm_Imp g Γ 112 (xi_la (.ref (xm_la g 8)) 117) from xs_indy hG hΓ hN (8 : Fin 11) rfl rfl dX1_gateOf_112) rfl ?_
  have hq := hP0 _ (xl_fin e hp)
  exact xw_aret (show xm_Imp g Γ 117 (xi_aret _) from xs_areturn hΓ rfl (Or.inl ⟨_, rfl⟩) dX1_gateOf_117) hq
noncomputable def D_X3_gate_20 (g : xm_G) (l2 : Int32) (l3 : Int32) (l4 : Option Nat) (l5 : Option Nat) (l6 : Int32) (s : Int32 × xm_H) : Option ((Int32 × xm_H) ⊕ (xm_H)) :=
 (if l6 ≤ s.1 then
 xl_o (some s.2) else
 xo_b l5 (fun a5 =>
 xo_b (xh_ar "StringTableau$Row" s.2 a5 s.1) (fun v6 =>
 xo_b l4 (fun a7 =>
 xo_b (F_LAM_on g a7 v6 l2 l3 s.2) (fun v8 =>
 some (Sum.inl ((s.1 + 1), v8)))))))
noncomputable def L_X3_gate_20 (g : xm_G) (l2 : Int32) (l3 : Int32) (l4 : Option Nat) (l5 : Option Nat) (l6 : Int32) (s : Int32 × xm_H) : Option (xm_H) := xl_loop (D_X3_gate_20 g l2 l3 l4 l5 l6) s
noncomputable def F_X3_gate (g : xm_G) (p0 : Nat) (p1 : Int32) (p2 : Int32) (p3 : Int32) (h : xm_H) : Option (xm_H) :=
 xo_b (F_X1_gateOf g p1 h) (fun v1 =>
 xo_b (xh_fr [(2, 0)] h p0) (fun v2 =>
 xo_b v2 (fun a3 =>
 xo_b (xh_len h a3) (fun v4 =>
 L_X3_gate_20 g p2 p3 v1 v2 v4 (0, h)))))
set_option maxHeartbeats 4000000 in
theorem K_X3_gate {g : xm_G} (hG : xm_Gw g) (p0 : Nat) (p1 : Int32) (p2 : Int32) (p3 : Int32) (h : xm_H) {o : xm_H} (e : F_X3_gate g p0 p1 p2 p3 h = some o) {Q : xm_P} {X : xm_X} (hQ : Q none o) : xm_Run g M_X3_gate 7 [.ref p0, .int p1, .int p2, .int p3] h 0 0 Q X := by
  refine xm_Run.of pn_StringTableau_Tableau (Nat.le_of_ble_eq_true rfl) (fun Γ hΓ => ?_)
  obtain ⟨P0, hP0, hp⟩ : ∃ P : xm_H → Prop, (∀ o, P o → Q none o) ∧ P o := ⟨fun o => Q none o, fun _ h => h, hQ⟩
  clear hQ
  show xm_W g Γ 0 [some (.ref p0), some (.int p1), some (.int p2), some (.int p3), none, none, none, none, none] [] h 0 0
  have hL_20 : ∀ (l2 : Int32) (l3 : Int32) (l4 : Option Nat) (l5 : Option Nat) (l6 : Int32) (s : Int32 × xm_H) (o : xm_H), L_X3_gate_20 g l2 l3 l4 l5 l6 s = some o → P0 o → xm_W g Γ 20 [none, none, some (.int l2), some (.int l3), some (va_rf l4), some (va_rf l5), some (.int l6), some (.int s.1), none] [] s.2 0 0 := by
    intro l2 l3 l4 l5 l6
    refine xl_rule (WS := fun s : Int32 × xm_H => xm_W g Γ 20 [none, none, some (.int l2), some (.int l3), some (va_rf l4), some (va_rf l5), some (.int l6), some (.int s.1), none] [] s.2 0 0) ?_
    intro s o e hp
    obtain ⟨P1, hP1, hp⟩ : ∃ P : (Int32 × xm_H) ⊕ (xm_H) → Prop, (∀ o, P o → xl_P (fun s : Int32 × xm_H => xm_W g Γ 20 [none, none, some (.int l2), some (.int l3), some (va_rf l4), some (va_rf l5), some (.int l6), some (.int s.1), none] [] s.2 0 0) P0 o) ∧ P o := ⟨_, fun _ h => h, hp⟩
    unfold D_X3_gate_20 at e
    refine xw_ild (show xm_Imp g Γ 20 (xi_ild 7 22) from xs_iload hΓ dX3_gate_20) rfl ?_
    refine xw_ild (show xm_Imp g Γ 22 (xi_ild 6 24) from xs_iload hΓ dX3_gate_22) rfl ?_
    refine xw_ic (show xm_Imp g Γ 24 (xi_ic (fun x y => y ≤ x) 51 27) from xs_icmp_ge hΓ dX3_gate_24 (by decide)) (fun c => ?_) (fun c => ?_)
    · rw [if_pos c] at e
      obtain ⟨_, e, hp⟩ := xl_o_s e (hP1 _ hp)
      exact xw_vret (show xm_Imp g Γ 51 (xi_vret _) from xs_return hΓ rfl dX3_gate_51) (hP0 _ (xl_fin e hp))
    · rw [if_neg c] at e
      refine xw_aldo (x := l5) (show xm_Imp g Γ 27 (xi_ald 5 29) from xs_aload hΓ dX3_gate_27) rfl ?_
      refine xw_ild (show xm_Imp g Γ 29 (xi_ild 7 31) from xs_iload hΓ dX3_gate_29) rfl ?_
      obtain ⟨a5, ha5, e⟩ := xo_b_s e
      obtain ⟨v6, e1, e⟩ := xo_b_s e
      refine xw_haal (o := l5) (show xm_Imp g Γ 31 (xi_aal "StringTableau$Row" 32) from xs_aal hG hΓ dX3_gate_31) ha5 e1 ?_
      refine xw_asto (x := v6) (ls' := [none, none, some (.int l2), some (.int l3), some (va_rf l4), some (va_rf l5), some (.int l6), some (.int s.1), some (va_rf v6)]) (show xm_Imp g Γ 32 (xi_ast 8 34) from xs_astore hΓ dX3_gate_32 (Nat.le_of_ble_eq_true rfl)) rfl ?_
      refine xw_aldo (x := l4) (show xm_Imp g Γ 34 (xi_ald 4 36) from xs_aload hΓ dX3_gate_34) rfl ?_
      refine xw_aldo (x := v6) (show xm_Imp g Γ 36 (xi_ald 8 38) from xs_aload hΓ dX3_gate_36) rfl ?_
      refine xw_ild (show xm_Imp g Γ 38 (xi_ild 2 39) from xs_iload_n hΓ dX3_gate_38) rfl ?_
      refine xw_ild (show xm_Imp g Γ 39 (xi_ild 3 40) from xs_iload_n hΓ dX3_gate_39) rfl ?_
      obtain ⟨a7, ha7, e⟩ := xo_b_s e
      obtain ⟨v8, e1, e⟩ := xo_b_s e
      refine xw_lamu3 (o := l4) (show xm_Imp g Γ 40 (xi_lam g xL_ons 3 45) from xs_lamon hG hΓ rfl q1546 dX3_gate_40) (by simp [xm_stk, xv_cat, xc_int, xc_long, xc_float, xc_double, xc_ref]) ha7 (K_LAM_on hG _ _ _ _ _ e1) ?_
      refine xw_inc (v := (1)) (ls' := [none, none, some (.int l2), some (.int l3), some (va_rf l4), some (va_rf l5), some (.int l6), some (.int (s.1 + 1)), some (va_rf v6)]) (show xm_Imp g Γ 45 (xi_inc 7 (1) 48) from xs_iinc hΓ dX3_gate_45 (by decide) (Nat.le_of_ble_eq_true rfl)) rfl rfl ?_
      refine xw_goto (show xm_Imp g Γ 48 (xi_goto 20) from xs_goto hΓ dX3_gate_48 (by decide)) ?_
      have hq := xl_P_inl (hP1 _ (xl_fin e hp)); exact xm_lx (hq) (And.intro rfl (And.intro rfl (And.intro rfl (And.intro rfl (And.intro rfl (And.intro rfl (trivial)))))))
  unfold F_X3_gate at e
  refine xw_ild (show xm_Imp g Γ 0 (xi_ild 1 1) from xs_iload_n hΓ dX3_gate_0) rfl ?_
  obtain ⟨v1, e1, e⟩ := xo_b_s e
  refine xw_sv1 (show xm_Imp g Γ 1 (xi_inv g M_X1_gateOf 6 1 4) from xs_invSN hG hΓ k_X1_gateOf rfl q1480 q1481 dX3_gate_1) rfl (fun Q X hQ => K_X1_gateOf hG p1 _ e1 hQ) ?_
  refine xw_asto (x := v1) (ls' := [some (.ref p0), some (.int p1), some (.int p2), some (.int p3), some (va_rf v1), none, none, none, none]) (show xm_Imp g Γ 4 (xi_ast 4 6) from xs_astore hΓ dX3_gate_4 (Nat.le_of_ble_eq_true rfl)) rfl ?_
  refine xw_ald (show xm_Imp g Γ 6 (xi_ald 0 7) from xs_aload_n hΓ dX3_gate_6) rfl ?_
  obtain ⟨v2, e1, e⟩ := xo_b_s e
  refine xw_gr1 (o := (some p0)) (show xm_Imp g Γ 7 (xi_get 2 0 10) from xs_get hG hΓ (ci := 2) (kf := 0) rfl (Nat.le_of_ble_eq_true rfl) q268 dX3_gate_7) rfl e1 ?_
  refine xw_asto (x := v2) (ls' := [some (.ref p0), some (.int p1), some (.int p2), some (.int p3), some (va_rf v1), some (va_rf v2), none, none, none]) (show xm_Imp g Γ 10 (xi_ast 5 12) from xs_astore hΓ dX3_gate_10 (Nat.le_of_ble_eq_true rfl)) ((xm_s1_o (o := v1) rfl).trans rfl) ?_
  refine xw_aldo (x := v2) (show xm_Imp g Γ 12 (xi_ald 5 14) from xs_aload hΓ dX3_gate_12) rfl ?_
  obtain ⟨a3, ha3, e⟩ := xo_b_s e
  obtain ⟨v4, e1, e⟩ := xo_b_s e
  refine xw_hlen (o := v2) (show xm_Imp g Γ 14 (xi_len 15) from xs_len hG hΓ dX3_gate_14) ha3 e1 ?_
  refine xw_ist (ls' := [some (.ref p0), some (.int p1), some (.int p2), some (.int p3), some (va_rf v1), some (va_rf v2), some (.int v4), none, none]) (show xm_Imp g Γ 15 (xi_ist 6 17) from xs_istore hΓ dX3_gate_15 (Nat.le_of_ble_eq_true rfl)) ((xm_s1_o (o := v2) rfl).trans rfl) ?_
  refine xw_psh (v := (.int (0))) (show xm_Imp g Γ 17 (xi_psh (.int (0)) 18) from xs_iconst hΓ dX3_gate_17 (by decide)) ?_
  refine xw_ist (ls' := [some (.ref p0), some (.int p1), some (.int p2), some (.int p3), some (va_rf v1), some (va_rf v2), some (.int v4), some (.int 0), none]) (show xm_Imp g Γ 18 (xi_ist 7 20) from xs_istore hΓ dX3_gate_18 (Nat.le_of_ble_eq_true rfl)) rfl ?_
  exact xm_lx (hL_20 _ _ _ _ _ _ _ e hp) (And.intro rfl (And.intro rfl (And.intro rfl (And.intro rfl (And.intro rfl (And.intro rfl (trivial)))))))
noncomputable def F_X2_gate (g : xm_G) (p0 : Nat) (p1 : Int32) (p2 : Int32) (p3 : Int32) (h : xm_H) : Option (xm_H) :=
 xo_b (xh_fr [(1, 0)] h p0) (fun v1 =>
 xo_b v1 (fun a2 =>
 xo_b (xh_is 2 h a2) (fun _ =>
 xo_b (F_X3_gate g a2 p1 p2 p3 h) (fun v3 =>
 xo_b (xh_fi [(1, 6)] v3 p0) (fun v4 =>
 xo_b (xh_w [(1, 6)] v3 p0 (.int (v4 + 1))) (fun h5 =>
 some h5))))))
set_option maxHeartbeats 4000000 in
theorem K_X2_gate {g : xm_G} (hG : xm_Gw g) (p0 : Nat) (p1 : Int32) (p2 : Int32) (p3 : Int32) (h : xm_H) {o : xm_H} (e : F_X2_gate g p0 p1 p2 p3 h = some o) {Q : xm_P} {X : xm_X} (hQ : Q none o) : xm_Run g M_X2_gate 8 [.ref p0, .int p1, .int p2, .int p3] h 0 0 Q X := by
  refine xm_Run.of pn_StringTableau_State (Nat.le_of_ble_eq_true rfl) (fun Γ hΓ => ?_)
  obtain ⟨P0, hP0, hp⟩ : ∃ P : xm_H → Prop, (∀ o, P o → Q none o) ∧ P o := ⟨fun o => Q none o, fun _ h => h, hQ⟩
  clear hQ
  show xm_W g Γ 0 [some (.ref p0), some (.int p1), some (.int p2), some (.int p3)] [] h 0 0
  unfold F_X2_gate at e
  refine xw_ald (show xm_Imp g Γ 0 (xi_ald 0 1) from xs_aload_n hΓ dX2_gate_0) rfl ?_
  obtain ⟨v1, e1, e⟩ := xo_b_s e
  refine xw_gr1 (o := (some p0)) (show xm_Imp g Γ 1 (xi_get 1 0 4) from xs_get hG hΓ (ci := 1) (kf := 0) rfl (Nat.le_of_ble_eq_true rfl) q275 dX2_gate_1) rfl e1 ?_
  refine xw_ild (show xm_Imp g Γ 4 (xi_ild 1 5) from xs_iload_n hΓ dX2_gate_4) rfl ?_
  refine xw_ild (show xm_Imp g Γ 5 (xi_ild 2 6) from xs_iload_n hΓ dX2_gate_5) rfl ?_
  refine xw_ild (show xm_Imp g Γ 6 (xi_ild 3 7) from xs_iload_n hΓ dX2_gate_6) rfl ?_
  obtain ⟨a2, ha2, e⟩ := xo_b_s e
  obtain ⟨_, e0, e⟩ := xo_b_s e
  obtain ⟨v3, e1, e⟩ := xo_b_s e
  refine xw_hu3 (o := v1) (show xm_Imp g Γ 7 (xi_vir g 2 M_X3_gate 7 3 10) from xs_invV hG hΓ k_X3_gate rfl (ci := 2) rfl q1476 q1477 q1478 dX2_gate_7) (by simp [xm_stk, xv_cat, xc_int, xc_long, xc_float, xc_double, xc_ref]) ha2 e0 (fun Q X hQ => K_X3_gate hG a2 p1 p2 p3 _ e1 hQ) ?_
  refine xw_ald (show xm_Imp g Γ 10 (xi_ald 0 11) from xs_aload_n hΓ dX2_gate_10) rfl ?_
  refine xw_dup (show xm_Imp g Γ 11 (xi_dup 12) from xs_dup hΓ dX2_gate_11) rfl ?_
  obtain ⟨v4, e1, e⟩ := xo_b_s e
  refine xw_gi1 (o := (some p0)) (show xm_Imp g Γ 12 (xi_get 1 6 15) from xs_get hG hΓ (ci := 1) (kf := 6) rfl (Nat.le_of_ble_eq_true rfl) q287 dX2_gate_12) rfl e1 ?_
  refine xw_psh (v := (.int (1))) (show xm_Imp g Γ 15 (xi_psh (.int (1)) 16) from xs_iconst hΓ dX2_gate_15 (by decide)) ?_
  refine xw_ii (show xm_Imp g Γ 16 (xi_ii (fun x y => x + y) 17) from xs_iadd hΓ dX2_gate_16) ?_
  obtain ⟨h5, e1, e⟩ := xo_b_s e
  refine xw_pt1 (o := (some p0)) (show xm_Imp g Γ 17 (xi_put 1 6 (.int) 20) from xs_put hG hΓ (ci := 1) (kf := 6) rfl (Nat.le_of_ble_eq_true rfl) rfl (by decide +kernel) q287 dX2_gate_17) rfl (xf_int _) e1 ?_
  exact xw_vret (show xm_Imp g Γ 20 (xi_vret _) from xs_return hΓ rfl dX2_gate_20) (hP0 _ (xl_fin e hp))
noncomputable def F_J3_elementAt (g : xm_G) (p0 : Option Nat) (p1 : Int32) (h : xm_H) : Option (Option Nat) :=
 xo_b p0 (fun a1 =>
 xo_b (xh_ar "java/lang/Object" h a1 p1) (fun v2 =>
 some v2))
set_option maxHeartbeats 4000000 in
theorem K_J3_elementAt {g : xm_G} (hG : xm_Gw g) (p0 : Option Nat) (p1 : Int32) (h : xm_H) {o : Option Nat} (e : F_J3_elementAt g p0 p1 h = some o) {Q : xm_P} {X : xm_X} (hQ : Q (some (va_rf o)) h) : xm_Run g M_J3_elementAt 1 [va_rf p0, .int p1] h 0 0 Q X := by
  refine xm_Run.of2 (ls := [some (va_rf p0), some (.int p1)]) pn_java_util_ArrayDeque (by cases p0 <;> exact Nat.le_of_ble_eq_true rfl) (by cases p0 <;> rfl) (fun Γ hΓ => ?_)
  obtain ⟨P0, hP0, hp⟩ : ∃ P : Option Nat → Prop, (∀ o, P o → Q (some (va_rf o)) h) ∧ P o := ⟨fun o => Q (some (va_rf o)) h, fun _ h => h, hQ⟩
  clear hQ
  show xm_W g Γ 0 [some (va_rf p0), some (.int p1)] [] h 0 0
  unfold F_J3_elementAt at e
  refine xw_aldo (x := p0) (show xm_Imp g Γ 0 (xi_ald 0 1) from xs_aload_n hΓ dJ3_elementAt_0) rfl ?_
  refine xw_ild (show xm_Imp g Γ 1 (xi_ild 1 2) from xs_iload_n hΓ dJ3_elementAt_1) rfl ?_
  obtain ⟨a1, ha1, e⟩ := xo_b_s e
  obtain ⟨v2, e1, e⟩ := xo_b_s e
  refine xw_haal (o := p0) (show xm_Imp g Γ 2 (xi_aal "java/lang/Object" 3) from xs_aal hG hΓ dJ3_elementAt_2) ha1 e1 ?_
  have hq := hP0 _ (xl_fin e hp)
  exact xw_areto (show xm_Imp g Γ 3 (xi_aret _) from xs_areturn hΓ rfl (Or.inl ⟨_, rfl⟩) dJ3_elementAt_3) hq
noncomputable def F_J3_pollFirst (g : xm_G) (p0 : Nat) (h : xm_H) : Option (Option Nat × xm_H) :=
 xo_b (xh_fr [(13, 0)] h p0) (fun v1 =>
 xo_b (xh_fi [(13, 1)] h p0) (fun v2 =>
 xo_b (F_J3_elementAt g v1 v2 h) (fun v3 =>
 (if v3 = none then
 some (v3, h) else
 xo_b v1 (fun a4 =>
 xo_b (xh_sr "java/lang/Object" h a4 v2 none) (fun h5 =>
 xo_b (xh_len h5 a4) (fun v6 =>
 xo_b (xh_w [(13, 1)] h5 p0 (.int (F_J3_inc v2 v6))) (fun h7 =>
 some (v3, h7)))))))))
set_option maxHeartbeats 4000000 in
theorem K_J3_pollFirst {g : xm_G} (hG : xm_Gw g) (p0 : Nat) (h : xm_H) {o : Option Nat × xm_H} (e : F_J3_pollFirst g p0 h = some o) {Q : xm_P} {X : xm_X} (hQ : Q (some (va_rf o.1)) o.2) : xm_Run g M_J3_pollFirst 2 [.ref p0] h 0 0 Q X := by
  refine xm_Run.of pn_java_util_ArrayDeque (Nat.le_of_ble_eq_true rfl) (fun Γ hΓ => ?_)
  obtain ⟨P0, hP0, hp⟩ : ∃ P : Option Nat × xm_H → Prop, (∀ o, P o → Q (some (va_rf o.1)) o.2) ∧ P o := ⟨fun o => Q (some (va_rf o.1)) o.2, fun _ h => h, hQ⟩
  clear hQ
  show xm_W g Γ 0 [some (.ref p0), none, none, none] [] h 0 0
  unfold F_J3_pollFirst at e
  refine xw_ald (show xm_Imp g Γ 0 (xi_ald 0 1) from xs_aload_n hΓ dJ3_pollFirst_0) rfl ?_
  obtain ⟨v1, e1, e⟩ := xo_b_s e
  refine xw_gr1 (o := (some p0)) (show xm_Imp g Γ 1 (xi_get 13 0 4) from xs_get hG hΓ (ci := 13) (kf := 0) rfl (Nat.le_of_ble_eq_true rfl) q221 dJ3_pollFirst_1) rfl e1 ?_
  refine xw_dup (show xm_Imp g Γ 4 (xi_dup 5) from xs_dup hΓ dJ3_pollFirst_4) (xm_c1_rf v1) ?_
  refine xw_asto (x := v1) (ls' := [some (.ref p0), some (va_rf v1), none, none]) (show xm_Imp g Γ 5 (xi_ast 1 6) from xs_astore_n hΓ dJ3_pollFirst_5 (Nat.le_of_ble_eq_true rfl)) rfl ?_
  refine xw_ald (show xm_Imp g Γ 6 (xi_ald 0 7) from xs_aload_n hΓ dJ3_pollFirst_6) rfl ?_
  obtain ⟨v2, e1, e⟩ := xo_b_s e
  refine xw_gi1 (o := (some p0)) (show xm_Imp g Γ 7 (xi_get 13 1 10) from xs_get hG hΓ (ci := 13) (kf := 1) rfl (Nat.le_of_ble_eq_true rfl) q224 dJ3_pollFirst_7) rfl e1 ?_
  refine xw_dup (show xm_Imp g Γ 10 (xi_dup 11) from xs_dup hΓ dJ3_pollFirst_10) rfl ?_
  refine xw_ist (ls' := [some (.ref p0), some (va_rf v1), some (.int v2), none]) (show xm_Imp g Γ 11 (xi_ist 2 12) from xs_istore_n hΓ dJ3_pollFirst_11 (Nat.le_of_ble_eq_true rfl)) ((xm_s1_o (o := v1) rfl).trans rfl) ?_
  obtain ⟨v3, e1, e⟩ := xo_b_s e
  refine xw_sv2 (show xm_Imp g Γ 12 (xi_inv g M_J3_elementAt 1 2 15) from xs_invS hG hΓ k_J3_elementAt rfl q1255 q1256 dJ3_pollFirst_12) rfl (fun Q X hQ => K_J3_elementAt hG v1 v2 _ e1 hQ) ?_
  refine xw_asto (x := v3) (ls' := [some (.ref p0), some (va_rf v1), some (.int v2), some (va_rf v3)]) (show xm_Imp g Γ 15 (xi_ast 3 16) from xs_astore_n hΓ dJ3_pollFirst_15 (Nat.le_of_ble_eq_true rfl)) rfl ?_
  refine xw_aldo (x := v3) (show xm_Imp g Γ 16 (xi_ald 3 17) from xs_aload_n hΓ dJ3_pollFirst_16) rfl ?_
  refine xw_nul (o := v3) (show xm_Imp g Γ 17 (xi_nul 34 20) from xs_ifnull hΓ dJ3_pollFirst_17 (by decide)) (fun c => ?_) (fun c => ?_)
  · rw [if_pos c] at e
    refine xw_aldo (x := v3) (show xm_Imp g Γ 34 (xi_ald 3 35) from xs_aload_n hΓ dJ3_pollFirst_34) rfl ?_
    have hq := hP0 _ (xl_fin e hp)
    exact xw_areto (show xm_Imp g Γ 35 (xi_aret _) from xs_areturn hΓ rfl (Or.inl ⟨_, rfl⟩) dJ3_pollFirst_35) hq
  · rw [if_neg c] at e
    refine xw_aldo (x := v1) (show xm_Imp g Γ 20 (xi_ald 1 21) from xs_aload_n hΓ dJ3_pollFirst_20) rfl ?_
    refine xw_ild (show xm_Imp g Γ 21 (xi_ild 2 22) from xs_iload_n hΓ dJ3_pollFirst_21) rfl ?_
    refine xw_psh (v := .null) (show xm_Imp g Γ 22 (xi_psh .null 23) from xs_null hΓ dJ3_pollFirst_22) ?_
    obtain ⟨a4, ha4, e⟩ := xo_b_s e
    obtain ⟨h5, e1, e⟩ := xo_b_s e
    refine xw_haas (o := v1) (v := none) (show xm_Imp g Γ 23 (xi_aas "java/lang/Object" 24) from xs_aas hG hΓ dJ3_pollFirst_23) ha4 e1 ?_
    refine xw_ald (show xm_Imp g Γ 24 (xi_ald 0 25) from xs_aload_n hΓ dJ3_pollFirst_24) rfl ?_
    refine xw_ild (show xm_Imp g Γ 25 (xi_ild 2 26) from xs_iload_n hΓ dJ3_pollFirst_25) rfl ?_
    refine xw_aldo (x := v1) (show xm_Imp g Γ 26 (xi_ald 1 27) from xs_aload_n hΓ dJ3_pollFirst_26) rfl ?_
    obtain ⟨v6, e1, e⟩ := xo_b_s e
    refine xw_hlen (o := v1) (show xm_Imp g Γ 27 (xi_len 28) from xs_len hG hΓ dJ3_pollFirst_27) ha4 e1 ?_
    refine xw_sv2 (show xm_Imp g Γ 28 (xi_inv g M_J3_inc 1 2 31) from xs_invS hG hΓ k_J3_inc rfl q1258 q1259 dJ3_pollFirst_28) rfl (fun Q X hQ => K_J3_inc hG v2 v6 rfl hQ) ?_
    obtain ⟨h7, e1, e⟩ := xo_b_s e
    refine xw_pt1 (o := (some p0)) (show xm_Imp g Γ 31 (xi_put 13 1 (.int) 34) from xs_put hG hΓ (ci := 13) (kf := 1) rfl (Nat.le_of_ble_eq_true rfl) rfl (by decide +kernel) q224 dJ3_pollFirst_31) rfl (xf_int _) e1 ?_
    refine xw_aldo (x := v3) (show xm_Imp g Γ 34 (xi_ald 3 35) from xs_aload_n hΓ dJ3_pollFirst_34) rfl ?_
    have hq := hP0 _ (xl_fin e hp)
    exact xw_areto (show xm_Imp g Γ 35 (xi_aret _) from xs_areturn hΓ rfl (Or.inl ⟨_, rfl⟩) dJ3_pollFirst_35) hq
noncomputable def F_J3_removeFirst (g : xm_G) (p0 : Nat) (h : xm_H) : Option (Option Nat × xm_H) :=
 xo_b (xh_is 13 h p0) (fun _ =>
 xo_b (F_J3_pollFirst g p0 h) (fun v1 =>
 (if v1.1 = none then
 none else
 some (v1.1, v1.2))))
set_option maxHeartbeats 4000000 in
theorem K_J3_removeFirst {g : xm_G} (hG : xm_Gw g) (p0 : Nat) (h : xm_H) {o : Option Nat × xm_H} (e : F_J3_removeFirst g p0 h = some o) {Q : xm_P} {X : xm_X} (hQ : Q (some (va_rf o.1)) o.2) : xm_Run g M_J3_removeFirst 8 [.ref p0] h 0 0 Q X := by
  refine xm_Run.of pn_java_util_ArrayDeque (Nat.le_of_ble_eq_true rfl) (fun Γ hΓ => ?_)
  obtain ⟨P0, hP0, hp⟩ : ∃ P : Option Nat × xm_H → Prop, (∀ o, P o → Q (some (va_rf o.1)) o.2) ∧ P o := ⟨fun o => Q (some (va_rf o.1)) o.2, fun _ h => h, hQ⟩
  clear hQ
  show xm_W g Γ 0 [some (.ref p0), none] [] h 0 0
  unfold F_J3_removeFirst at e
  refine xw_ald (show xm_Imp g Γ 0 (xi_ald 0 1) from xs_aload_n hΓ dJ3_removeFirst_0) rfl ?_
  obtain ⟨_, e0, e⟩ := xo_b_s e
  obtain ⟨v1, e1, e⟩ := xo_b_s e
  refine xw_hv0 (o := (some p0)) (show xm_Imp g Γ 1 (xi_vir g 13 M_J3_pollFirst 2 0 4) from xs_invV hG hΓ k_J3_pollFirst rfl (ci := 13) rfl q1251 q1252 q1253 dJ3_removeFirst_1) rfl rfl e0 (fun Q X hQ => K_J3_pollFirst hG p0 _ e1 hQ) ?_
  refine xw_asto (x := v1.1) (ls' := [some (.ref p0), some (va_rf v1.1)]) (show xm_Imp g Γ 4 (xi_ast 1 5) from xs_astore_n hΓ dJ3_removeFirst_4 (Nat.le_of_ble_eq_true rfl)) rfl ?_
  refine xw_aldo (x := v1.1) (show xm_Imp g Γ 5 (xi_ald 1 6) from xs_aload_n hΓ dJ3_removeFirst_5) rfl ?_
  refine xw_nul (o := v1.1) (show xm_Imp g Γ 6 (xi_nul 9 17) from xs_ifnonnull hΓ dJ3_removeFirst_6 (by decide)) (fun c => ?_) (fun c => ?_)
  · rw [if_pos c] at e
    cases e
  · rw [if_neg c] at e
    refine xw_aldo (x := v1.1) (show xm_Imp g Γ 17 (xi_ald 1 18) from xs_aload_n hΓ dJ3_removeFirst_17) rfl ?_
    have hq := hP0 _ (xl_fin e hp)
    exact xw_areto (show xm_Imp g Γ 18 (xi_aret _) from xs_areturn hΓ rfl (Or.inl ⟨_, rfl⟩) dJ3_removeFirst_18) hq
noncomputable def B_X2_gateOnTrail_27 (g : xm_G) (l0 : Nat) (l1 : Int32) (l2 : Int32) (l3 : Int32) (h : xm_H) (bc : Nat) (bs : Nat) (Q : xm_H → Prop) : Prop :=
 xt_b (xh_fr [(1, 2)] h l0) (fun v8 =>
 xt_b (xa_nat 3) (fun N13 =>
 xt_new h bc bs N13 (.inl (.int, N13, .inl (fun _ => 0))) (fun a9 h10 b11 b12 =>
 xt_b (xh_si .int h10 a9 0 l1) (fun h14 =>
 xt_b (xh_si .int h14 a9 1 l2) (fun h15 =>
 xt_b (xh_si .int h15 a9 2 l3) (fun h16 =>
 xt_b v8 (fun a17 =>
 xt_b (xh_is 13 h16 a17) (fun _ =>
 xt_c b11 b12 (fun m18 m19 => F_J3_addLast g a17 (some a9) h16 m18 m19 (fun h20 =>
 Q h20))))))))))
noncomputable def F_X2_gateOnTrail (g : xm_G) (p0 : Nat) (p1 : Int32) (p2 : Int32) (p3 : Int32) (h : xm_H) (bc : Nat) (bs : Nat) (Q : xm_H → Prop) : Prop :=
 xt_b (xh_is 1 h p0) (fun _ =>
 xt_b (F_X2_gate g p0 p1 p2 p3 h) (fun v1 =>
 xt_b (xh_fr [(1, 2)] v1 p0) (fun v2 =>
 xt_b v2 (fun a3 =>
 xt_b (xh_is 13 v1 a3) (fun _ =>
 xt_b (F_J3_size g a3 v1) (fun v4 =>
 (if v4 = (80 : Int32) then
 xt_b (xh_fr [(1, 2)] v1 p0) (fun v5 =>
 xt_b v5 (fun a6 =>
 xt_b (xh_is 13 v1 a6) (fun _ =>
 xt_b (F_J3_removeFirst g a6 v1) (fun v7 =>
 B_X2_gateOnTrail_27 g p0 p1 p2 p3 v7.2 bc bs Q)))) else
 B_X2_gateOnTrail_27 g p0 p1 p2 p3 v1 bc bs Q)))))))
set_option maxHeartbeats 4000000 in
theorem K_X2_gateOnTrail {g : xm_G} (hG : xm_Gw g) (p0 : Nat) (p1 : Int32) (p2 : Int32) (p3 : Int32) (h : xm_H) (bc : Nat) (bs : Nat) {Q : xm_H → Prop} (e : F_X2_gateOnTrail g p0 p1 p2 p3 h bc bs Q) : xm_Run g M_X2_gateOnTrail 11 [.ref p0, .int p1, .int p2, .int p3] h bc bs (fun v h' => v = none ∧ Q h') xm_no := by
  refine xm_Run.of pn_StringTableau_State (Nat.le_of_ble_eq_true rfl) (fun Γ hΓ => ?_)
  show xm_W g Γ 0 [some (.ref p0), some (.int p1), some (.int p2), some (.int p3)] [] h bc bs
  have hB_27 : ∀ (l0 : Nat) (l1 : Int32) (l2 : Int32) (l3 : Int32) (h : xm_H) (bc : Nat) (bs : Nat), B_X2_gateOnTrail_27 g l0 l1 l2 l3 h bc bs Q → xm_W g Γ 27 [some (.ref l0), some (.int l1), some (.int l2), some (.int l3)] [] h bc bs := by
    intro l0 l1 l2 l3 h bc bs e
    unfold B_X2_gateOnTrail_27 at e
    refine xw_ald (show xm_Imp g Γ 27 (xi_ald 0 28) from xs_aload_n hΓ dX2_gateOnTrail_27) rfl ?_
    obtain ⟨v8, e1, e⟩ := e
    refine xw_gr1 (o := (some l0)) (show xm_Imp g Γ 28 (xi_get 1 2 31) from xs_get hG hΓ (ci := 1) (kf := 2) rfl (Nat.le_of_ble_eq_true rfl) q279 dX2_gateOnTrail_28) rfl e1 ?_
    refine xw_psh (v := (.int (3))) (show xm_Imp g Γ 31 (xi_psh (.int (3)) 32) from xs_iconst hΓ dX2_gateOnTrail_31 (by decide)) ?_
    obtain ⟨N13, e1, e⟩ := e
    refine xw_neai (show xm_Imp g Γ 32 (xi_nea .int xm_zi 34) from xs_newa (at0 := .int) hG hΓ rfl (by decide) (by decide) xm_zi xm_zi_int q267 dX2_gateOnTrail_32) e1 e (fun a9 h10 b11 b12 e => ?_)
    refine xw_dup (show xm_Imp g Γ 34 (xi_dup 35) from xs_dup hΓ dX2_gateOnTrail_34) rfl ?_
    refine xw_psh (v := (.int (0))) (show xm_Imp g Γ 35 (xi_psh (.int (0)) 36) from xs_iconst hΓ dX2_gateOnTrail_35 (by decide)) ?_
    refine xw_ild (show xm_Imp g Γ 36 (xi_ild 1 37) from xs_iload_n hΓ dX2_gateOnTrail_36) rfl ?_
    obtain ⟨h14, e1, e⟩ := e
    refine xw_hias (o := (some a9)) (show xm_Imp g Γ 37 (xi_ias 38) from xs_ias hG hΓ dX2_gateOnTrail_37) rfl e1 ?_
    refine xw_dup (show xm_Imp g Γ 38 (xi_dup 39) from xs_dup hΓ dX2_gateOnTrail_38) rfl ?_
    refine xw_psh (v := (.int (1))) (show xm_Imp g Γ 39 (xi_psh (.int (1)) 40) from xs_iconst hΓ dX2_gateOnTrail_39 (by decide)) ?_
    refine xw_ild (show xm_Imp g Γ 40 (xi_ild 2 41) from xs_iload_n hΓ dX2_gateOnTrail_40) rfl ?_
    obtain ⟨h15, e1, e⟩ := e
    refine xw_hias (o := (some a9)) (show xm_Imp g Γ 41 (xi_ias 42) from xs_ias hG hΓ dX2_gateOnTrail_41) rfl e1 ?_
    refine xw_dup (show xm_Imp g Γ 42 (xi_dup 43) from xs_dup hΓ dX2_gateOnTrail_42) rfl ?_
    refine xw_psh (v := (.int (2))) (show xm_Imp g Γ 43 (xi_psh (.int (2)) 44) from xs_iconst hΓ dX2_gateOnTrail_43 (by decide)) ?_
    refine xw_ild (show xm_Imp g Γ 44 (xi_ild 3 45) from xs_iload_n hΓ dX2_gateOnTrail_44) rfl ?_
    obtain ⟨h16, e1, e⟩ := e
    refine xw_hias (o := (some a9)) (show xm_Imp g Γ 45 (xi_ias 46) from xs_ias hG hΓ dX2_gateOnTrail_45) rfl e1 ?_
    obtain ⟨a17, ha17, e⟩ := e
    obtain ⟨_, e0, e⟩ := e
    obtain ⟨m18, m19, ⟨em1, em2⟩, e⟩ := e
    refine xw_tvu1 (o := v8) (show xm_Imp g Γ 46 (xi_vir g 13 M_J3_addLast 10 1 49) from xs_invV hG hΓ k_J3_addLast rfl (ci := 13) rfl q1456 q1262 q1263 dX2_gateOnTrail_46) (by simp [xm_stk, xv_cat, xc_int, xc_long, xc_float, xc_double, xc_ref]) ha17 e0 em1 em2 (K_J3_addLast hG a17 (some a9) _ _ _ e) (fun h20 e => ?_)
    exact xw_vret (show xm_Imp g Γ 49 (xi_vret _) from xs_return hΓ rfl dX2_gateOnTrail_49) ⟨rfl, e⟩
  unfold F_X2_gateOnTrail at e
  refine xw_ald (show xm_Imp g Γ 0 (xi_ald 0 1) from xs_aload_n hΓ dX2_gateOnTrail_0) rfl ?_
  refine xw_ild (show xm_Imp g Γ 1 (xi_ild 1 2) from xs_iload_n hΓ dX2_gateOnTrail_1) rfl ?_
  refine xw_ild (show xm_Imp g Γ 2 (xi_ild 2 3) from xs_iload_n hΓ dX2_gateOnTrail_2) rfl ?_
  refine xw_ild (show xm_Imp g Γ 3 (xi_ild 3 4) from xs_iload_n hΓ dX2_gateOnTrail_3) rfl ?_
  obtain ⟨_, e0, e⟩ := e
  obtain ⟨v1, e1, e⟩ := e
  refine xw_hu3 (o := (some p0)) (show xm_Imp g Γ 4 (xi_vir g 1 M_X2_gate 8 3 7) from xs_invV hG hΓ k_X2_gate rfl (ci := 1) rfl q1472 q1473 q1474 dX2_gateOnTrail_4) rfl rfl e0 (fun Q X hQ => K_X2_gate hG p0 p1 p2 p3 _ e1 hQ) ?_
  refine xw_ald (show xm_Imp g Γ 7 (xi_ald 0 8) from xs_aload_n hΓ dX2_gateOnTrail_7) rfl ?_
  obtain ⟨v2, e1, e⟩ := e
  refine xw_gr1 (o := (some p0)) (show xm_Imp g Γ 8 (xi_get 1 2 11) from xs_get hG hΓ (ci := 1) (kf := 2) rfl (Nat.le_of_ble_eq_true rfl) q279 dX2_gateOnTrail_8) rfl e1 ?_
  obtain ⟨a3, ha3, e⟩ := e
  obtain ⟨_, e0, e⟩ := e
  obtain ⟨v4, e1, e⟩ := e
  refine xw_hv0 (o := v2) (show xm_Imp g Γ 11 (xi_vir g 13 M_J3_size 2 0 14) from xs_invV hG hΓ k_J3_size rfl (ci := 13) rfl q1549 q1166 q1167 dX2_gateOnTrail_11) (by simp [xm_stk, xv_cat, xc_int, xc_long, xc_float, xc_double, xc_ref]) ha3 e0 (fun Q X hQ => K_J3_size hG a3 _ e1 hQ) ?_
  refine xw_psh (v := (.int (80))) (show xm_Imp g Γ 14 (xi_psh (.int (80)) 16) from xs_bipush hΓ dX2_gateOnTrail_14 (by decide)) ?_
  refine xw_ic (show xm_Imp g Γ 16 (xi_ic (fun x y => x = y) 19 27) from xs_icmp_ne hΓ dX2_gateOnTrail_16 (by decide)) (fun c => ?_) (fun c => ?_)
  · rw [if_pos c] at e
    refine xw_ald (show xm_Imp g Γ 19 (xi_ald 0 20) from xs_aload_n hΓ dX2_gateOnTrail_19) rfl ?_
    obtain ⟨v5, e1, e⟩ := e
    refine xw_gr1 (o := (some p0)) (show xm_Imp g Γ 20 (xi_get 1 2 23) from xs_get hG hΓ (ci := 1) (kf := 2) rfl (Nat.le_of_ble_eq_true rfl) q279 dX2_gateOnTrail_20) rfl e1 ?_
    obtain ⟨a6, ha6, e⟩ := e
    obtain ⟨_, e0, e⟩ := e
    obtain ⟨v7, e1, e⟩ := e
    refine xw_hv0 (o := v5) (show xm_Imp g Γ 23 (xi_vir g 13 M_J3_removeFirst 8 0 26) from xs_invV hG hΓ k_J3_removeFirst rfl (ci := 13) rfl q1550 q1248 q1249 dX2_gateOnTrail_23) (by simp [xm_stk, xv_cat, xc_int, xc_long, xc_float, xc_double, xc_ref]) ha6 e0 (fun Q X hQ => K_J3_removeFirst hG a6 _ e1 hQ) ?_
    refine xw_pop (show xm_Imp g Γ 26 (xi_pop 27) from xs_pop hΓ dX2_gateOnTrail_26) (xm_c1_rf v7.1) ?_
    exact hB_27 _ _ _ _ _ _ _ e
  · rw [if_neg c] at e
    exact hB_27 _ _ _ _ _ _ _ e
noncomputable def F_X2_draw (g : xm_G) (p0 : Nat) (h : xm_H) : Option (Int32 × xm_H) :=
 xo_b (xh_fi [(1, 4)] h p0) (fun v1 =>
 xo_b (xh_w [(1, 4)] h p0 (.int (((v1 * 1103515245) + 12345) &&& 2147483647))) (fun h2 =>
 xo_b (xh_fi [(1, 4)] h2 p0) (fun v3 =>
 (if ((v3 >>> (16 &&& 31)) &&& 1) = 0 then
 some (1, h2) else
 some ((-1), h2)))))
set_option maxHeartbeats 4000000 in
theorem K_X2_draw {g : xm_G} (hG : xm_Gw g) (p0 : Nat) (h : xm_H) {o : Int32 × xm_H} (e : F_X2_draw g p0 h = some o) {Q : xm_P} {X : xm_X} (hQ : Q (some (.int o.1)) o.2) : xm_Run g M_X2_draw 1 [.ref p0] h 0 0 Q X := by
  refine xm_Run.of pn_StringTableau_State (Nat.le_of_ble_eq_true rfl) (fun Γ hΓ => ?_)
  obtain ⟨P0, hP0, hp⟩ : ∃ P : Int32 × xm_H → Prop, (∀ o, P o → Q (some (.int o.1)) o.2) ∧ P o := ⟨fun o => Q (some (.int o.1)) o.2, fun _ h => h, hQ⟩
  clear hQ
  show xm_W g Γ 0 [some (.ref p0)] [] h 0 0
  unfold F_X2_draw at e
  refine xw_ald (show xm_Imp g Γ 0 (xi_ald 0 1) from xs_aload_n hΓ dX2_draw_0) rfl ?_
  refine xw_ald (show xm_Imp g Γ 1 (xi_ald 0 2) from xs_aload_n hΓ dX2_draw_1) rfl ?_
  obtain ⟨v1, e1, e⟩ := xo_b_s e
  refine xw_gi1 (o := (some p0)) (show xm_Imp g Γ 2 (xi_get 1 4 5) from xs_get hG hΓ (ci := 1) (kf := 4) rfl (Nat.le_of_ble_eq_true rfl) q284 dX2_draw_2) rfl e1 ?_
  refine xw_psh (v := (.int (1103515245))) (show xm_Imp g Γ 5 (xi_psh (.int (1103515245)) 7) from xs_ldc hG hΓ q1562 dX2_draw_5) ?_
  refine xw_ii (show xm_Imp g Γ 7 (xi_ii (fun x y => x * y) 8) from xs_imul hΓ dX2_draw_7) ?_
  refine xw_psh (v := (.int (12345))) (show xm_Imp g Γ 8 (xi_psh (.int (12345)) 11) from xs_sipush hΓ dX2_draw_8 (by decide)) ?_
  refine xw_ii (show xm_Imp g Γ 11 (xi_ii (fun x y => x + y) 12) from xs_iadd hΓ dX2_draw_11) ?_
  refine xw_psh (v := (.int (2147483647))) (show xm_Imp g Γ 12 (xi_psh (.int (2147483647)) 14) from xs_ldc hG hΓ q1563 dX2_draw_12) ?_
  refine xw_ii (show xm_Imp g Γ 14 (xi_ii (fun x y => x &&& y) 15) from xs_iand hΓ dX2_draw_14) ?_
  obtain ⟨h2, e1, e⟩ := xo_b_s e
  refine xw_pt1 (o := (some p0)) (show xm_Imp g Γ 15 (xi_put 1 4 (.int) 18) from xs_put hG hΓ (ci := 1) (kf := 4) rfl (Nat.le_of_ble_eq_true rfl) rfl (by decide +kernel) q284 dX2_draw_15) rfl (xf_int _) e1 ?_
  refine xw_ald (show xm_Imp g Γ 18 (xi_ald 0 19) from xs_aload_n hΓ dX2_draw_18) rfl ?_
  obtain ⟨v3, e1, e⟩ := xo_b_s e
  refine xw_gi1 (o := (some p0)) (show xm_Imp g Γ 19 (xi_get 1 4 22) from xs_get hG hΓ (ci := 1) (kf := 4) rfl (Nat.le_of_ble_eq_true rfl) q284 dX2_draw_19) rfl e1 ?_
  refine xw_psh (v := (.int (16))) (show xm_Imp g Γ 22 (xi_psh (.int (16)) 24) from xs_bipush hΓ dX2_draw_22 (by decide)) ?_
  refine xw_ii (show xm_Imp g Γ 24 (xi_ii (fun x y => x >>> (y &&& 31)) 25) from xs_ishr hΓ dX2_draw_24) ?_
  refine xw_psh (v := (.int (1))) (show xm_Imp g Γ 25 (xi_psh (.int (1)) 26) from xs_iconst hΓ dX2_draw_25 (by decide)) ?_
  refine xw_ii (show xm_Imp g Γ 26 (xi_ii (fun x y => x &&& y) 27) from xs_iand hΓ dX2_draw_26) ?_
  refine xw_if (show xm_Imp g Γ 27 (xi_if (fun x => x = 0) 30 34) from xs_if_ne hΓ dX2_draw_27 (by decide)) (fun c => ?_) (fun c => ?_)
  · rw [if_pos c] at e
    refine xw_psh (v := (.int (1))) (show xm_Imp g Γ 30 (xi_psh (.int (1)) 31) from xs_iconst hΓ dX2_draw_30 (by decide)) ?_
    refine xw_goto (show xm_Imp g Γ 31 (xi_goto 35) from xs_goto hΓ dX2_draw_31 (by decide)) ?_
    have hq := hP0 _ (xl_fin e hp)
    exact xw_iret (show xm_Imp g Γ 35 (xi_iret .int _) from xs_ireturn hΓ rfl dX2_draw_35) (xn_int _) hq
  · rw [if_neg c] at e
    refine xw_psh (v := (.int (-1))) (show xm_Imp g Γ 34 (xi_psh (.int (-1)) 35) from xs_iconst hΓ dX2_draw_34 (by decide)) ?_
    have hq := hP0 _ (xl_fin e hp)
    exact xw_iret (show xm_Imp g Γ 35 (xi_iret .int _) from xs_ireturn hΓ rfl dX2_draw_35) (xn_int _) hq
def B_J17_numberOfTrailingZeros_74 (l0 : Int32) (l1 : Int32) : Int32 :=
 l1 + (ja_ushr l0 1)
def B_J17_numberOfTrailingZeros_62 (l0 : Int32) (l1 : Int32) : Int32 :=
 B_J17_numberOfTrailingZeros_74 (if l0 ≤ 4 then l0 else ja_ushr l0 2) (if l0 ≤ 4 then l1 else l1 + 2)
def B_J17_numberOfTrailingZeros_49 (l0 : Int32) (l1 : Int32) : Int32 :=
 B_J17_numberOfTrailingZeros_62 (if l0 ≤ 16 then l0 else ja_ushr l0 4) (if l0 ≤ 16 then l1 else l1 + 4)
def B_J17_numberOfTrailingZeros_34 (l0 : Int32) (l1 : Int32) : Int32 :=
 B_J17_numberOfTrailingZeros_49 (if l0 ≤ 256 then l0 else ja_ushr l0 8) (if l0 ≤ 256 then l1 else l1 + 8)
def F_J17_numberOfTrailingZeros (p0 : Int32) : Int32 :=
 (if 0 < ((p0 ^^^ (-1)) &&& (p0 - 1)) then
 B_J17_numberOfTrailingZeros_34 (if ((p0 ^^^ (-1)) &&& (p0 - 1)) ≤ 65536 then (p0 ^^^ (-1)) &&& (p0 - 1) else ja_ushr ((p0 ^^^ (-1)) &&& (p0 - 1)) 16) (if ((p0 ^^^ (-1)) &&& (p0 - 1)) ≤ 65536 then 1 else 1 + 16) else
 ((p0 ^^^ (-1)) &&& (p0 - 1)) &&& 32)
set_option maxHeartbeats 4000000 in
theorem K_J17_numberOfTrailingZeros {g : xm_G} (hG : xm_Gw g) {h : xm_H} (p0 : Int32) {o : Int32} (e : F_J17_numberOfTrailingZeros p0 = o) {Q : xm_P} {X : xm_X} (hQ : Q (some (.int o)) h) : xm_Run g M_J17_numberOfTrailingZeros 1 [.int p0] h 0 0 Q X := by
  refine xm_Run.of pn_java_lang_Integer (Nat.le_of_ble_eq_true rfl) (fun Γ hΓ => ?_)
  obtain ⟨P0, hP0, hp⟩ : ∃ P : Int32 → Prop, (∀ o, P o → Q (some (.int o)) h) ∧ P o := ⟨fun o => Q (some (.int o)) h, fun _ h => h, hQ⟩
  clear hQ
  show xm_W g Γ 0 [some (.int p0), none] [] h 0 0
  have hB_74 : ∀ (l0 : Int32) (l1 : Int32) (o : Int32), B_J17_numberOfTrailingZeros_74 l0 l1 = o → P0 o → xm_W g Γ 74 [some (.int l0), some (.int l1)] [] h 0 0 := by
    intro l0 l1 o e hp
    unfold B_J17_numberOfTrailingZeros_74 at e
    refine xw_ild (show xm_Imp g Γ 74 (xi_ild 1 75) from xs_iload_n hΓ dJ17_numberOfTrailingZeros_74) rfl ?_
    refine xw_ild (show xm_Imp g Γ 75 (xi_ild 0 76) from xs_iload_n hΓ dJ17_numberOfTrailingZeros_75) rfl ?_
    refine xw_psh (v := (.int (1))) (show xm_Imp g Γ 76 (xi_psh (.int (1)) 77) from xs_iconst hΓ dJ17_numberOfTrailingZeros_76 (by decide)) ?_
    refine xw_ii (show xm_Imp g Γ 77 (xi_ii (fun x y => (x.toUInt32 >>> (y.toUInt32 &&& Int32.toUInt32 31)).toInt32) 78) from xs_iushr hΓ dJ17_numberOfTrailingZeros_77) ?_
    refine xw_ii (show xm_Imp g Γ 78 (xi_ii (fun x y => x + y) 79) from xs_iadd hΓ dJ17_numberOfTrailingZeros_78) ?_
    exact xw_iret (show xm_Imp g Γ 79 (xi_iret .int _) from xs_ireturn hΓ rfl dJ17_numberOfTrailingZeros_79) (xn_int _) (hP0 _ (xl_finV e hp))
  have hB_62 : ∀ (l0 : Int32) (l1 : Int32) (o : Int32), B_J17_numberOfTrailingZeros_62 l0 l1 = o → P0 o → xm_W g Γ 62 [some (.int l0), some (.int l1)] [] h 0 0 := by
    intro l0 l1 o e hp
    unfold B_J17_numberOfTrailingZeros_62 at e
    refine xw_ild (show xm_Imp g Γ 62 (xi_ild 0 63) from xs_iload_n hΓ dJ17_numberOfTrailingZeros_62) rfl ?_
    refine xw_psh (v := (.int (4))) (show xm_Imp g Γ 63 (xi_psh (.int (4)) 64) from xs_iconst hΓ dJ17_numberOfTrailingZeros_63 (by decide)) ?_
    refine xw_ic (show xm_Imp g Γ 64 (xi_ic (fun x y => x ≤ y) 74 67) from xs_icmp_le hΓ dJ17_numberOfTrailingZeros_64 (by decide)) (fun c => ?_) (fun c => ?_)
    · simp only [if_pos c] at e
      exact hB_74 _ _ _ e hp
    · simp only [if_neg c] at e
      refine xw_inc (v := (2)) (ls' := [some (.int l0), some (.int (l1 + 2))]) (show xm_Imp g Γ 67 (xi_inc 1 (2) 70) from xs_iinc hΓ dJ17_numberOfTrailingZeros_67 (by decide) (Nat.le_of_ble_eq_true rfl)) rfl rfl ?_
      refine xw_ild (show xm_Imp g Γ 70 (xi_ild 0 71) from xs_iload_n hΓ dJ17_numberOfTrailingZeros_70) rfl ?_
      refine xw_psh (v := (.int (2))) (show xm_Imp g Γ 71 (xi_psh (.int (2)) 72) from xs_iconst hΓ dJ17_numberOfTrailingZeros_71 (by decide)) ?_
      refine xw_ii (show xm_Imp g Γ 72 (xi_ii (fun x y => (x.toUInt32 >>> (y.toUInt32 &&& Int32.toUInt32 31)).toInt32) 73) from xs_iushr hΓ dJ17_numberOfTrailingZeros_72) ?_
      refine xw_ist (ls' := [some (.int (ja_ushr l0 2)), some (.int (l1 + 2))]) (show xm_Imp g Γ 73 (xi_ist 0 74) from xs_istore_n hΓ dJ17_numberOfTrailingZeros_73 (Nat.le_of_ble_eq_true rfl)) rfl ?_
      exact hB_74 _ _ _ e hp
  have hB_49 : ∀ (l0 : Int32) (l1 : Int32) (o : Int32), B_J17_numberOfTrailingZeros_49 l0 l1 = o → P0 o → xm_W g Γ 49 [some (.int l0), some (.int l1)] [] h 0 0 := by
    intro l0 l1 o e hp
    unfold B_J17_numberOfTrailingZeros_49 at e
    refine xw_ild (show xm_Imp g Γ 49 (xi_ild 0 50) from xs_iload_n hΓ dJ17_numberOfTrailingZeros_49) rfl ?_
    refine xw_psh (v := (.int (16))) (show xm_Imp g Γ 50 (xi_psh (.int (16)) 52) from xs_bipush hΓ dJ17_numberOfTrailingZeros_50 (by decide)) ?_
    refine xw_ic (show xm_Imp g Γ 52 (xi_ic (fun x y => x ≤ y) 62 55) from xs_icmp_le hΓ dJ17_numberOfTrailingZeros_52 (by decide)) (fun c => ?_) (fun c => ?_)
    · simp only [if_pos c] at e
      exact hB_62 _ _ _ e hp
    · simp only [if_neg c] at e
      refine xw_inc (v := (4)) (ls' := [some (.int l0), some (.int (l1 + 4))]) (show xm_Imp g Γ 55 (xi_inc 1 (4) 58) from xs_iinc hΓ dJ17_numberOfTrailingZeros_55 (by decide) (Nat.le_of_ble_eq_true rfl)) rfl rfl ?_
      refine xw_ild (show xm_Imp g Γ 58 (xi_ild 0 59) from xs_iload_n hΓ dJ17_numberOfTrailingZeros_58) rfl ?_
      refine xw_psh (v := (.int (4))) (show xm_Imp g Γ 59 (xi_psh (.int (4)) 60) from xs_iconst hΓ dJ17_numberOfTrailingZeros_59 (by decide)) ?_
      refine xw_ii (show xm_Imp g Γ 60 (xi_ii (fun x y => (x.toUInt32 >>> (y.toUInt32 &&& Int32.toUInt32 31)).toInt32) 61) from xs_iushr hΓ dJ17_numberOfTrailingZeros_60) ?_
      refine xw_ist (ls' := [some (.int (ja_ushr l0 4)), some (.int (l1 + 4))]) (show xm_Imp g Γ 61 (xi_ist 0 62) from xs_istore_n hΓ dJ17_numberOfTrailingZeros_61 (Nat.le_of_ble_eq_true rfl)) rfl ?_
      exact hB_62 _ _ _ e hp
  have hB_34 : ∀ (l0 : Int32) (l1 : Int32) (o : Int32), B_J17_numberOfTrailingZeros_34 l0 l1 = o → P0 o → xm_W g Γ 34 [some (.int l0), some (.int l1)] [] h 0 0 := by
    intro l0 l1 o e hp
    unfold B_J17_numberOfTrailingZeros_34 at e
    refine xw_ild (show xm_Imp g Γ 34 (xi_ild 0 35) from xs_iload_n hΓ dJ17_numberOfTrailingZeros_34) rfl ?_
    refine xw_psh (v := (.int (256))) (show xm_Imp g Γ 35 (xi_psh (.int (256)) 38) from xs_sipush hΓ dJ17_numberOfTrailingZeros_35 (by decide)) ?_
    refine xw_ic (show xm_Imp g Γ 38 (xi_ic (fun x y => x ≤ y) 49 41) from xs_icmp_le hΓ dJ17_numberOfTrailingZeros_38 (by decide)) (fun c => ?_) (fun c => ?_)
    · simp only [if_pos c] at e
      exact hB_49 _ _ _ e hp
    · simp only [if_neg c] at e
      refine xw_inc (v := (8)) (ls' := [some (.int l0), some (.int (l1 + 8))]) (show xm_Imp g Γ 41 (xi_inc 1 (8) 44) from xs_iinc hΓ dJ17_numberOfTrailingZeros_41 (by decide) (Nat.le_of_ble_eq_true rfl)) rfl rfl ?_
      refine xw_ild (show xm_Imp g Γ 44 (xi_ild 0 45) from xs_iload_n hΓ dJ17_numberOfTrailingZeros_44) rfl ?_
      refine xw_psh (v := (.int (8))) (show xm_Imp g Γ 45 (xi_psh (.int (8)) 47) from xs_bipush hΓ dJ17_numberOfTrailingZeros_45 (by decide)) ?_
      refine xw_ii (show xm_Imp g Γ 47 (xi_ii (fun x y => (x.toUInt32 >>> (y.toUInt32 &&& Int32.toUInt32 31)).toInt32) 48) from xs_iushr hΓ dJ17_numberOfTrailingZeros_47) ?_
      refine xw_ist (ls' := [some (.int (ja_ushr l0 8)), some (.int (l1 + 8))]) (show xm_Imp g Γ 48 (xi_ist 0 49) from xs_istore_n hΓ dJ17_numberOfTrailingZeros_48 (Nat.le_of_ble_eq_true rfl)) rfl ?_
      exact hB_49 _ _ _ e hp
  unfold F_J17_numberOfTrailingZeros at e
  refine xw_ild (show xm_Imp g Γ 0 (xi_ild 0 1) from xs_iload_n hΓ dJ17_numberOfTrailingZeros_0) rfl ?_
  refine xw_psh (v := (.int (-1))) (show xm_Imp g Γ 1 (xi_psh (.int (-1)) 2) from xs_iconst hΓ dJ17_numberOfTrailingZeros_1 (by decide)) ?_
  refine xw_ii (show xm_Imp g Γ 2 (xi_ii (fun x y => x ^^^ y) 3) from xs_ixor hΓ dJ17_numberOfTrailingZeros_2) ?_
  refine xw_ild (show xm_Imp g Γ 3 (xi_ild 0 4) from xs_iload_n hΓ dJ17_numberOfTrailingZeros_3) rfl ?_
  refine xw_psh (v := (.int (1))) (show xm_Imp g Γ 4 (xi_psh (.int (1)) 5) from xs_iconst hΓ dJ17_numberOfTrailingZeros_4 (by decide)) ?_
  refine xw_ii (show xm_Imp g Γ 5 (xi_ii (fun x y => x - y) 6) from xs_isub hΓ dJ17_numberOfTrailingZeros_5) ?_
  refine xw_ii (show xm_Imp g Γ 6 (xi_ii (fun x y => x &&& y) 7) from xs_iand hΓ dJ17_numberOfTrailingZeros_6) ?_
  refine xw_ist (ls' := [some (.int ((p0 ^^^ (-1)) &&& (p0 - 1))), none]) (show xm_Imp g Γ 7 (xi_ist 0 8) from xs_istore_n hΓ dJ17_numberOfTrailingZeros_7 (Nat.le_of_ble_eq_true rfl)) rfl ?_
  refine xw_ild (show xm_Imp g Γ 8 (xi_ild 0 9) from xs_iload_n hΓ dJ17_numberOfTrailingZeros_8) rfl ?_
  refine xw_if (show xm_Imp g Γ 9 (xi_if (fun x => 0 < x) 17 12) from xs_if_gt hΓ dJ17_numberOfTrailingZeros_9 (by decide)) (fun c => ?_) (fun c => ?_)
  · rw [if_pos c] at e
    refine xw_psh (v := (.int (1))) (show xm_Imp g Γ 17 (xi_psh (.int (1)) 18) from xs_iconst hΓ dJ17_numberOfTrailingZeros_17 (by decide)) ?_
    refine xw_ist (ls' := [some (.int ((p0 ^^^ (-1)) &&& (p0 - 1))), some (.int 1)]) (show xm_Imp g Γ 18 (xi_ist 1 19) from xs_istore_n hΓ dJ17_numberOfTrailingZeros_18 (Nat.le_of_ble_eq_true rfl)) rfl ?_
    refine xw_ild (show xm_Imp g Γ 19 (xi_ild 0 20) from xs_iload_n hΓ dJ17_numberOfTrailingZeros_19) rfl ?_
    refine xw_psh (v := (.int (65536))) (show xm_Imp g Γ 20 (xi_psh (.int (65536)) 23) from xs_ldcw hG hΓ q1571 dJ17_numberOfTrailingZeros_20) ?_
    refine xw_ic (show xm_Imp g Γ 23 (xi_ic (fun x y => x ≤ y) 34 26) from xs_icmp_le hΓ dJ17_numberOfTrailingZeros_23 (by decide)) (fun c => ?_) (fun c => ?_)
    · simp only [if_pos c] at e
      exact hB_34 _ _ _ e hp
    · simp only [if_neg c] at e
      refine xw_inc (v := (16)) (ls' := [some (.int ((p0 ^^^ (-1)) &&& (p0 - 1))), some (.int (1 + 16))]) (show xm_Imp g Γ 26 (xi_inc 1 (16) 29) from xs_iinc hΓ dJ17_numberOfTrailingZeros_26 (by decide) (Nat.le_of_ble_eq_true rfl)) rfl rfl ?_
      refine xw_ild (show xm_Imp g Γ 29 (xi_ild 0 30) from xs_iload_n hΓ dJ17_numberOfTrailingZeros_29) rfl ?_
      refine xw_psh (v := (.int (16))) (show xm_Imp g Γ 30 (xi_psh (.int (16)) 32) from xs_bipush hΓ dJ17_numberOfTrailingZeros_30 (by decide)) ?_
      refine xw_ii (show xm_Imp g Γ 32 (xi_ii (fun x y => (x.toUInt32 >>> (y.toUInt32 &&& Int32.toUInt32 31)).toInt32) 33) from xs_iushr hΓ dJ17_numberOfTrailingZeros_32) ?_
      refine xw_ist (ls' := [some (.int (ja_ushr ((p0 ^^^ (-1)) &&& (p0 - 1)) 16)), some (.int (1 + 16))]) (show xm_Imp g Γ 33 (xi_ist 0 34) from xs_istore_n hΓ dJ17_numberOfTrailingZeros_33 (Nat.le_of_ble_eq_true rfl)) rfl ?_
      exact hB_34 _ _ _ e hp
  · rw [if_neg c] at e
    refine xw_ild (show xm_Imp g Γ 12 (xi_ild 0 13) from xs_iload_n hΓ dJ17_numberOfTrailingZeros_12) rfl ?_
    refine xw_psh (v := (.int (32))) (show xm_Imp g Γ 13 (xi_psh (.int (32)) 15) from xs_bipush hΓ dJ17_numberOfTrailingZeros_13 (by decide)) ?_
    refine xw_ii (show xm_Imp g Γ 15 (xi_ii (fun x y => x &&& y) 16) from xs_iand hΓ dJ17_numberOfTrailingZeros_15) ?_
    exact xw_iret (show xm_Imp g Γ 16 (xi_iret .int _) from xs_ireturn hΓ rfl dJ17_numberOfTrailingZeros_16) (xn_int _) (hP0 _ (xl_finV e hp))
noncomputable def B_X2_replace_113 (g : xm_G) (s0 : Option Nat) (s1 : Int32) (s2 : Option Nat) (s3 : Option Nat) (s4 : Int32) (s5 : Int32) (s6 : Int32) (h : xm_H) (bc : Nat) (bs : Nat) (Q : xm_H → Prop) : Prop :=
 xt_b s3 (fun a20 =>
 xt_b (F_X4_init g a20 s4 s5 s6 h) (fun v21 =>
 xt_b s0 (fun a22 =>
 xt_b (xh_sr "StringTableau$Row" v21 a22 s1 s2) (fun h23 =>
 Q h23))))
noncomputable def B_X2_replace_105 (g : xm_G) (s0 : Option Nat) (s1 : Int32) (s2 : Option Nat) (s3 : Option Nat) (s4 : Int32) (s5 : Int32) (s6 : Int32) (s7 : Int32) (h : xm_H) (bc : Nat) (bs : Nat) (Q : xm_H → Prop) : Prop :=
 B_X2_replace_113 g s0 s1 s2 s3 s4 s5 (if s6 = s7 then 0 else 1) h bc bs Q
noncomputable def B_X2_replace_70 (g : xm_G) (l1 : Option Nat) (l2 : Int32) (l3 : Option Nat) (l4 : Int32) (l5 : Int32) (h : xm_H) (bc : Nat) (bs : Nat) (k34 : Int32 × xm_H × Nat × Nat → Prop) (Q : xm_H → Prop) : Prop :=
 k34 ((l5 + 1), h, bc, bs)
noncomputable def D_X2_replace_34 (g : xm_G) (l1 : Option Nat) (l2 : Int32) (l3 : Option Nat) (l4 : Int32) (Q : xm_H → Prop) (k34 : Int32 × xm_H × Nat × Nat → Prop) (s : Int32 × xm_H × Nat × Nat) : Prop :=
 xt_b l3 (fun a10 =>
 xt_b (xh_len s.2.1 a10) (fun v11 =>
 (if v11 ≤ s.1 then
 xt_new s.2.1 s.2.2.1 s.2.2.2 3 (.inr (3, [.int 0, .int 0, .int 0])) (fun a12 h13 b14 b15 =>
 xt_b l1 (fun a16 =>
 xt_b (xh_fi [(3, 0)] h13 a16) (fun v17 =>
 xt_b (xh_fi [(3, 1)] h13 a16) (fun v18 =>
 xt_b (xh_fi [(3, 2)] h13 a16) (fun v19 =>
 B_X2_replace_105 g l3 l4 (some a12) (some a12) v17 v18 v19 (if l2 = ((-1) : Int32) then 1 else 0) h13 b14 b15 Q))))) else
 xt_b (xh_ar "StringTableau$Row" s.2.1 a10 s.1) (fun v24 =>
 xt_b l1 (fun a25 =>
 xt_b (xh_fi [(3, 0)] s.2.1 a25) (fun v26 =>
 xt_b (xh_fi [(3, 1)] s.2.1 a25) (fun v27 =>
 xt_b v24 (fun a28 =>
 xt_b (xh_is 3 s.2.1 a28) (fun _ =>
 xt_b (F_X4_commutes g a28 v26 v27 s.2.1) (fun v29 =>
 (if v29 = 0 then
 xt_b (xh_ar "StringTableau$Row" s.2.1 a10 s.1) (fun v30 =>
 xt_b (xh_ar "StringTableau$Row" s.2.1 a10 l4) (fun v31 =>
 xt_b v30 (fun a32 =>
 xt_b (xh_is 3 s.2.1 a32) (fun _ =>
 xt_b (F_X4_multiply g a32 v31 s.2.1) (fun v33 =>
 B_X2_replace_70 g l1 l2 l3 l4 s.1 v33 s.2.2.1 s.2.2.2 k34 Q))))) else
 B_X2_replace_70 g l1 l2 l3 l4 s.1 s.2.1 s.2.2.1 s.2.2.2 k34 Q)))))))))))
noncomputable def L_X2_replace_34 (g : xm_G) (l1 : Option Nat) (l2 : Int32) (l3 : Option Nat) (l4 : Int32) (Q : xm_H → Prop) (s : Int32 × xm_H × Nat × Nat) : Prop := xt_loop (D_X2_replace_34 g l1 l2 l3 l4 Q) s
noncomputable def F_X2_replace (g : xm_G) (p0 : Nat) (p1 : Option Nat) (p2 : Int32) (h : xm_H) (bc : Nat) (bs : Nat) (Q : xm_H → Prop) : Prop :=
 xt_b (xh_fr [(1, 0)] h p0) (fun v1 =>
 xt_b v1 (fun a2 =>
 xt_b (xh_fr [(2, 0)] h a2) (fun v3 =>
 xt_b (xh_fr [(1, 0)] h p0) (fun v4 =>
 xt_b p1 (fun a5 =>
 xt_b (xh_fi [(3, 0)] h a5) (fun v6 =>
 xt_b (xh_fi [(3, 1)] h a5) (fun v7 =>
 xt_b v4 (fun a8 =>
 xt_b (xh_is 2 h a8) (fun _ =>
 xt_b (F_X3_against g a8 v6 v7 h) (fun v9 =>
 L_X2_replace_34 g p1 p2 v3 (F_J17_numberOfTrailingZeros v9) Q (((F_J17_numberOfTrailingZeros v9) + 1), h, bc, bs)))))))))))
set_option maxHeartbeats 4000000 in
theorem K_X2_replace {g : xm_G} (hG : xm_Gw g) (p0 : Nat) (p1 : Option Nat) (p2 : Int32) (h : xm_H) (bc : Nat) (bs : Nat) {Q : xm_H → Prop} (e : F_X2_replace g p0 p1 p2 h bc bs Q) : xm_Run g M_X2_replace 5 [.ref p0, va_rf p1, .int p2] h bc bs (fun v h' => v = none ∧ Q h') xm_no := by
  refine xm_Run.of2 (ls := [some (.ref p0), some (va_rf p1), some (.int p2), none, none, none]) pn_StringTableau_State (by cases p1 <;> exact Nat.le_of_ble_eq_true rfl) (by cases p1 <;> rfl) (fun Γ hΓ => ?_)
  show xm_W g Γ 0 [some (.ref p0), some (va_rf p1), some (.int p2), none, none, none] [] h bc bs
  have hB_113 : ∀ (s0 : Option Nat) (s1 : Int32) (s2 : Option Nat) (s3 : Option Nat) (s4 : Int32) (s5 : Int32) (s6 : Int32) (h : xm_H) (bc : Nat) (bs : Nat), B_X2_replace_113 g s0 s1 s2 s3 s4 s5 s6 h bc bs Q → xm_W g Γ 113 [none, none, none, none, none, none] [.int s6, .int s5, .int s4, va_rf s3, va_rf s2, .int s1, va_rf s0] h bc bs := by
    intro s0 s1 s2 s3 s4 s5 s6 h bc bs e
    unfold B_X2_replace_113 at e
    obtain ⟨a20, ha20, e⟩ := e
    obtain ⟨v21, e1, e⟩ := e
    refine xw_pu3 (o := s3) (show xm_Imp g Γ 113 (xi_spe g M_X4_init 2 3 116) from xs_invI hG hΓ k_X4_init rfl q1575 q243 rfl dX2_replace_113) (by simp [xm_stk, xv_cat, xc_int, xc_long, xc_float, xc_double, xc_ref]) ha20 (fun Q X hQ => K_X4_init hG a20 s4 s5 s6 _ e1 hQ) ?_
    obtain ⟨a22, ha22, e⟩ := e
    obtain ⟨h23, e1, e⟩ := e
    refine xw_haas (o := s0) (v := s2) (show xm_Imp g Γ 116 (xi_aas "StringTableau$Row" 117) from xs_aas hG hΓ dX2_replace_116) ha22 e1 ?_
    exact xw_vret (show xm_Imp g Γ 117 (xi_vret _) from xs_return hΓ rfl dX2_replace_117) ⟨rfl, e⟩
  have hB_105 : ∀ (s0 : Option Nat) (s1 : Int32) (s2 : Option Nat) (s3 : Option Nat) (s4 : Int32) (s5 : Int32) (s6 : Int32) (s7 : Int32) (h : xm_H) (bc : Nat) (bs : Nat), B_X2_replace_105 g s0 s1 s2 s3 s4 s5 s6 s7 h bc bs Q → xm_W g Γ 105 [none, none, none, none, none, none] [.int s7, .int s6, .int s5, .int s4, va_rf s3, va_rf s2, .int s1, va_rf s0] h bc bs := by
    intro s0 s1 s2 s3 s4 s5 s6 s7 h bc bs e
    unfold B_X2_replace_105 at e
    refine xw_ic (show xm_Imp g Γ 105 (xi_ic (fun x y => x = y) 112 108) from xs_icmp_eq hΓ dX2_replace_105 (by decide)) (fun c => ?_) (fun c => ?_)
    · rw [if_pos c] at e
      refine xw_psh (v := (.int (0))) (show xm_Imp g Γ 112 (xi_psh (.int (0)) 113) from xs_iconst hΓ dX2_replace_112 (by decide)) ?_
      exact hB_113 _ _ _ _ _ _ _ _ _ _ e
    · rw [if_neg c] at e
      refine xw_psh (v := (.int (1))) (show xm_Imp g Γ 108 (xi_psh (.int (1)) 109) from xs_iconst hΓ dX2_replace_108 (by decide)) ?_
      refine xw_goto (show xm_Imp g Γ 109 (xi_goto 113) from xs_goto hΓ dX2_replace_109 (by decide)) ?_
      exact hB_113 _ _ _ _ _ _ _ _ _ _ e
  have hL_34 : ∀ (l1 : Option Nat) (l2 : Int32) (l3 : Option Nat) (l4 : Int32) (s : Int32 × xm_H × Nat × Nat), L_X2_replace_34 g l1 l2 l3 l4 Q s → xm_W g Γ 34 [none, some (va_rf l1), some (.int l2), some (va_rf l3), some (.int l4), some (.int s.1)] [] s.2.1 s.2.2.1 s.2.2.2 := by
    intro l1 l2 l3 l4
    refine xt_rule (WS := fun s : Int32 × xm_H × Nat × Nat => xm_W g Γ 34 [none, some (va_rf l1), some (.int l2), some (va_rf l3), some (.int l4), some (.int s.1)] [] s.2.1 s.2.2.1 s.2.2.2) ?_
    intro k34 hk34 s e
    have hB_70 : ∀ (l5 : Int32) (h : xm_H) (bc : Nat) (bs : Nat), B_X2_replace_70 g l1 l2 l3 l4 l5 h bc bs k34 Q → xm_W g Γ 70 [none, some (va_rf l1), some (.int l2), some (va_rf l3), some (.int l4), some (.int l5)] [] h bc bs := by
      intro l5 h bc bs e
      unfold B_X2_replace_70 at e
      refine xw_inc (v := (1)) (ls' := [none, some (va_rf l1), some (.int l2), some (va_rf l3), some (.int l4), some (.int (l5 + 1))]) (show xm_Imp g Γ 70 (xi_inc 5 (1) 73) from xs_iinc hΓ dX2_replace_70 (by decide) (Nat.le_of_ble_eq_true rfl)) rfl rfl ?_
      refine xw_goto (show xm_Imp g Γ 73 (xi_goto 34) from xs_goto hΓ dX2_replace_73 (by decide)) ?_
      have hq := hk34 _ e; exact hq
    unfold D_X2_replace_34 at e
    refine xw_ild (show xm_Imp g Γ 34 (xi_ild 5 36) from xs_iload hΓ dX2_replace_34) rfl ?_
    refine xw_aldo (x := l3) (show xm_Imp g Γ 36 (xi_ald 3 37) from xs_aload_n hΓ dX2_replace_36) rfl ?_
    obtain ⟨a10, ha10, e⟩ := e
    obtain ⟨v11, e1, e⟩ := e
    refine xw_hlen (o := l3) (show xm_Imp g Γ 37 (xi_len 38) from xs_len hG hΓ dX2_replace_37) ha10 e1 ?_
    refine xw_ic (show xm_Imp g Γ 38 (xi_ic (fun x y => y ≤ x) 76 41) from xs_icmp_ge hΓ dX2_replace_38 (by decide)) (fun c => ?_) (fun c => ?_)
    · rw [if_pos c] at e
      refine xw_aldo (x := l3) (show xm_Imp g Γ 76 (xi_ald 3 77) from xs_aload_n hΓ dX2_replace_76) rfl ?_
      refine xw_ild (show xm_Imp g Γ 77 (xi_ild 4 79) from xs_iload hΓ dX2_replace_77) rfl ?_
      refine xw_new (show xm_Imp g Γ 79 (xi_new 3 3 [.int 0, .int 0, .int 0] 82) from xs_new hG hΓ (ci := 3) rfl q1574 q241 q127 rfl tyX4 tyX4_ok (xm_df 3 (by decide +kernel)) dX2_replace_79) e (fun a12 h13 b14 b15 e => ?_)
      refine xw_dup (show xm_Imp g Γ 82 (xi_dup 83) from xs_dup hΓ dX2_replace_82) rfl ?_
      refine xw_aldo (x := l1) (show xm_Imp g Γ 83 (xi_ald 1 84) from xs_aload_n hΓ dX2_replace_83) rfl ?_
      obtain ⟨a16, ha16, e⟩ := e
      obtain ⟨v17, e1, e⟩ := e
      refine xw_gi1 (o := l1) (show xm_Imp g Γ 84 (xi_get 3 0 87) from xs_getN hG hΓ (ci := 3) (kf := 0) rfl (Nat.le_of_ble_eq_true rfl) q248 dX2_replace_84) ha16 e1 ?_
      refine xw_aldo (x := l1) (show xm_Imp g Γ 87 (xi_ald 1 88) from xs_aload_n hΓ dX2_replace_87) rfl ?_
      obtain ⟨v18, e1, e⟩ := e
      refine xw_gi1 (o := l1) (show xm_Imp g Γ 88 (xi_get 3 1 91) from xs_getN hG hΓ (ci := 3) (kf := 1) rfl (Nat.le_of_ble_eq_true rfl) q253 dX2_replace_88) ha16 e1 ?_
      refine xw_aldo (x := l1) (show xm_Imp g Γ 91 (xi_ald 1 92) from xs_aload_n hΓ dX2_replace_91) rfl ?_
      obtain ⟨v19, e1, e⟩ := e
      refine xw_gi1 (o := l1) (show xm_Imp g Γ 92 (xi_get 3 2 95) from xs_getN hG hΓ (ci := 3) (kf := 2) rfl (Nat.le_of_ble_eq_true rfl) q258 dX2_replace_92) ha16 e1 ?_
      refine xw_ild (show xm_Imp g Γ 95 (xi_ild 2 96) from xs_iload_n hΓ dX2_replace_95) rfl ?_
      refine xw_psh (v := (.int (-1))) (show xm_Imp g Γ 96 (xi_psh (.int (-1)) 97) from xs_iconst hΓ dX2_replace_96 (by decide)) ?_
      refine xw_ic (show xm_Imp g Γ 97 (xi_ic (fun x y => x = y) 100 104) from xs_icmp_ne hΓ dX2_replace_97 (by decide)) (fun c => ?_) (fun c => ?_)
      · rw [if_pos c] at e
        refine xw_psh (v := (.int (1))) (show xm_Imp g Γ 100 (xi_psh (.int (1)) 101) from xs_iconst hΓ dX2_replace_100 (by decide)) ?_
        refine xw_goto (show xm_Imp g Γ 101 (xi_goto 105) from xs_goto hΓ dX2_replace_101 (by decide)) ?_
        exact xm_lx (hB_105 _ _ _ _ _ _ _ _ _ _ _ e) (trivial)
      · rw [if_neg c] at e
        refine xw_psh (v := (.int (0))) (show xm_Imp g Γ 104 (xi_psh (.int (0)) 105) from xs_iconst hΓ dX2_replace_104 (by decide)) ?_
        exact xm_lx (hB_105 _ _ _ _ _ _ _ _ _ _ _ e) (trivial)
    · rw [if_neg c] at e
      refine xw_aldo (x := l3) (show xm_Imp g Γ 41 (xi_ald 3 42) from xs_aload_n hΓ dX2_replace_41) rfl ?_
      refine xw_ild (show xm_Imp g Γ 42 (xi_ild 5 44) from xs_iload hΓ dX2_replace_42) rfl ?_
      obtain ⟨v24, e1, e⟩ := e
      refine xw_haal (o := l3) (show xm_Imp g Γ 44 (xi_aal "StringTableau$Row" 45) from xs_aal hG hΓ dX2_replace_44) ha10 e1 ?_
      refine xw_aldo (x := l1) (show xm_Imp g Γ 45 (xi_ald 1 46) from xs_aload_n hΓ dX2_replace_45) rfl ?_
      obtain ⟨a25, ha25, e⟩ := e
      obtain ⟨v26, e1, e⟩ := e
      refine xw_gi1 (o := l1) (show xm_Imp g Γ 46 (xi_get 3 0 49) from xs_getN hG hΓ (ci := 3) (kf := 0) rfl (Nat.le_of_ble_eq_true rfl) q248 dX2_replace_46) ha25 e1 ?_
      refine xw_aldo (x := l1) (show xm_Imp g Γ 49 (xi_ald 1 50) from xs_aload_n hΓ dX2_replace_49) rfl ?_
      obtain ⟨v27, e1, e⟩ := e
      refine xw_gi1 (o := l1) (show xm_Imp g Γ 50 (xi_get 3 1 53) from xs_getN hG hΓ (ci := 3) (kf := 1) rfl (Nat.le_of_ble_eq_true rfl) q253 dX2_replace_50) ha25 e1 ?_
      obtain ⟨a28, ha28, e⟩ := e
      obtain ⟨_, e0, e⟩ := e
      obtain ⟨v29, e1, e⟩ := e
      refine xw_hv2 (o := v24) (show xm_Imp g Γ 53 (xi_vir g 3 M_X4_commutes 3 2 56) from xs_invV hG hΓ k_X4_commutes rfl (ci := 3) rfl q1572 q1203 q1204 dX2_replace_53) (by simp [xm_stk, xv_cat, xc_int, xc_long, xc_float, xc_double, xc_ref]) ha28 e0 (fun Q X hQ => K_X4_commutes hG a28 v26 v27 _ e1 hQ) ?_
      refine xw_if (show xm_Imp g Γ 56 (xi_if (fun x => x = 0) 59 70) from xs_if_ne hΓ dX2_replace_56 (by decide)) (fun c => ?_) (fun c => ?_)
      · rw [if_pos c] at e
        refine xw_aldo (x := l3) (show xm_Imp g Γ 59 (xi_ald 3 60) from xs_aload_n hΓ dX2_replace_59) rfl ?_
        refine xw_ild (show xm_Imp g Γ 60 (xi_ild 5 62) from xs_iload hΓ dX2_replace_60) rfl ?_
        obtain ⟨v30, e1, e⟩ := e
        refine xw_haal (o := l3) (show xm_Imp g Γ 62 (xi_aal "StringTableau$Row" 63) from xs_aal hG hΓ dX2_replace_62) ha10 e1 ?_
        refine xw_aldo (x := l3) (show xm_Imp g Γ 63 (xi_ald 3 64) from xs_aload_n hΓ dX2_replace_63) rfl ?_
        refine xw_ild (show xm_Imp g Γ 64 (xi_ild 4 66) from xs_iload hΓ dX2_replace_64) rfl ?_
        obtain ⟨v31, e1, e⟩ := e
        refine xw_haal (o := l3) (show xm_Imp g Γ 66 (xi_aal "StringTableau$Row" 67) from xs_aal hG hΓ dX2_replace_66) ha10 e1 ?_
        obtain ⟨a32, ha32, e⟩ := e
        obtain ⟨_, e0, e⟩ := e
        obtain ⟨v33, e1, e⟩ := e
        refine xw_hu1 (o := v30) (show xm_Imp g Γ 67 (xi_vir g 3 M_X4_multiply 4 1 70) from xs_invV hG hΓ k_X4_multiply rfl (ci := 3) rfl q1573 q1231 q1232 dX2_replace_67) (by simp [xm_stk, xv_cat, xc_int, xc_long, xc_float, xc_double, xc_ref]) ha32 e0 (fun Q X hQ => K_X4_multiply hG a32 v31 _ e1 hQ) ?_
        exact hB_70 _ _ _ _ e
      · rw [if_neg c] at e
        exact hB_70 _ _ _ _ e
  unfold F_X2_replace at e
  refine xw_ald (show xm_Imp g Γ 0 (xi_ald 0 1) from xs_aload_n hΓ dX2_replace_0) rfl ?_
  obtain ⟨v1, e1, e⟩ := e
  refine xw_gr1 (o := (some p0)) (show xm_Imp g Γ 1 (xi_get 1 0 4) from xs_get hG hΓ (ci := 1) (kf := 0) rfl (Nat.le_of_ble_eq_true rfl) q275 dX2_replace_1) rfl e1 ?_
  obtain ⟨a2, ha2, e⟩ := e
  obtain ⟨v3, e1, e⟩ := e
  refine xw_gr1 (o := v1) (show xm_Imp g Γ 4 (xi_get 2 0 7) from xs_getN hG hΓ (ci := 2) (kf := 0) rfl (Nat.le_of_ble_eq_true rfl) q269 dX2_replace_4) ha2 e1 ?_
  refine xw_asto (x := v3) (ls' := [some (.ref p0), some (va_rf p1), some (.int p2), some (va_rf v3), none, none]) (show xm_Imp g Γ 7 (xi_ast 3 8) from xs_astore_n hΓ dX2_replace_7 (Nat.le_of_ble_eq_true rfl)) rfl ?_
  refine xw_ald (show xm_Imp g Γ 8 (xi_ald 0 9) from xs_aload_n hΓ dX2_replace_8) rfl ?_
  obtain ⟨v4, e1, e⟩ := e
  refine xw_gr1 (o := (some p0)) (show xm_Imp g Γ 9 (xi_get 1 0 12) from xs_get hG hΓ (ci := 1) (kf := 0) rfl (Nat.le_of_ble_eq_true rfl) q275 dX2_replace_9) rfl e1 ?_
  refine xw_aldo (x := p1) (show xm_Imp g Γ 12 (xi_ald 1 13) from xs_aload_n hΓ dX2_replace_12) rfl ?_
  obtain ⟨a5, ha5, e⟩ := e
  obtain ⟨v6, e1, e⟩ := e
  refine xw_gi1 (o := p1) (show xm_Imp g Γ 13 (xi_get 3 0 16) from xs_getN hG hΓ (ci := 3) (kf := 0) rfl (Nat.le_of_ble_eq_true rfl) q248 dX2_replace_13) ha5 e1 ?_
  refine xw_aldo (x := p1) (show xm_Imp g Γ 16 (xi_ald 1 17) from xs_aload_n hΓ dX2_replace_16) rfl ?_
  obtain ⟨v7, e1, e⟩ := e
  refine xw_gi1 (o := p1) (show xm_Imp g Γ 17 (xi_get 3 1 20) from xs_getN hG hΓ (ci := 3) (kf := 1) rfl (Nat.le_of_ble_eq_true rfl) q253 dX2_replace_17) ha5 e1 ?_
  obtain ⟨a8, ha8, e⟩ := e
  obtain ⟨_, e0, e⟩ := e
  obtain ⟨v9, e1, e⟩ := e
  refine xw_hv2 (o := v4) (show xm_Imp g Γ 20 (xi_vir g 2 M_X3_against 4 2 23) from xs_invV hG hΓ k_X3_against rfl (ci := 2) rfl q1198 q1199 q1200 dX2_replace_20) (by simp [xm_stk, xv_cat, xc_int, xc_long, xc_float, xc_double, xc_ref]) ha8 e0 (fun Q X hQ => K_X3_against hG a8 v6 v7 _ e1 hQ) ?_
  refine xw_sv1 (show xm_Imp g Γ 23 (xi_inv g M_J17_numberOfTrailingZeros 1 1 26) from xs_invS hG hΓ k_J17_numberOfTrailingZeros rfl q1568 q1569 dX2_replace_23) rfl (fun Q X hQ => K_J17_numberOfTrailingZeros hG v9 rfl hQ) ?_
  refine xw_ist (ls' := [some (.ref p0), some (va_rf p1), some (.int p2), some (va_rf v3), some (.int (F_J17_numberOfTrailingZeros v9)), none]) (show xm_Imp g Γ 26 (xi_ist 4 28) from xs_istore hΓ dX2_replace_26 (Nat.le_of_ble_eq_true rfl)) ((xm_s1_o (o := v3) rfl).trans rfl) ?_
  refine xw_ild (show xm_Imp g Γ 28 (xi_ild 4 30) from xs_iload hΓ dX2_replace_28) rfl ?_
  refine xw_psh (v := (.int (1))) (show xm_Imp g Γ 30 (xi_psh (.int (1)) 31) from xs_iconst hΓ dX2_replace_30 (by decide)) ?_
  refine xw_ii (show xm_Imp g Γ 31 (xi_ii (fun x y => x + y) 32) from xs_iadd hΓ dX2_replace_31) ?_
  refine xw_ist (ls' := [some (.ref p0), some (va_rf p1), some (.int p2), some (va_rf v3), some (.int (F_J17_numberOfTrailingZeros v9)), some (.int ((F_J17_numberOfTrailingZeros v9) + 1))]) (show xm_Imp g Γ 32 (xi_ist 5 34) from xs_istore hΓ dX2_replace_32 (Nat.le_of_ble_eq_true rfl)) rfl ?_
  exact xm_lx (hL_34 _ _ _ _ _ e) (And.intro rfl (And.intro rfl (And.intro rfl (And.intro rfl (And.intro rfl (trivial))))))
noncomputable def F_X11_init (g : xm_G) (p0 : Nat) (p1 : Int32) (p2 : Int32) (h : xm_H) : Option (xm_H) :=
 xo_b (xh_w [(9, 0)] h p0 (.int p1)) (fun h1 =>
 xo_b (xo_g (narrow .boolean (.int p2) = .int p2 ∧ fits .boolean (.int p2) = true)) (fun _ =>
 xo_b (xh_w [(9, 1)] h1 p0 (.int p2)) (fun h2 =>
 some h2)))
set_option maxHeartbeats 4000000 in
theorem K_X11_init {g : xm_G} (hG : xm_Gw g) (p0 : Nat) (p1 : Int32) (p2 : Int32) (h : xm_H) {o : xm_H} (e : F_X11_init g p0 p1 p2 h = some o) {Q : xm_P} {X : xm_X} (hQ : Q none o) : xm_Run g M_X11_init 2 [.ref p0, .int p1, .int p2] h 0 0 Q X := by
  refine xm_Run.of pn_StringTableau_Record (Nat.le_of_ble_eq_true rfl) (fun Γ hΓ => ?_)
  obtain ⟨P0, hP0, hp⟩ : ∃ P : xm_H → Prop, (∀ o, P o → Q none o) ∧ P o := ⟨fun o => Q none o, fun _ h => h, hQ⟩
  clear hQ
  show xm_W g Γ 0 [some (.ref p0), some (.int p1), some (.int p2)] [] h 0 0
  unfold F_X11_init at e
  refine xw_ald (show xm_Imp g Γ 0 (xi_ald 0 1) from xs_aload_n hΓ dX11_init_0) rfl ?_
  refine xw_obj (o := some p0) (show xm_Imp g Γ 1 (xi_obj 4) from xs_obj hG hΓ rfl q1581 dX11_init_1) rfl rfl ?_
  refine xw_ald (show xm_Imp g Γ 4 (xi_ald 0 5) from xs_aload_n hΓ dX11_init_4) rfl ?_
  refine xw_ild (show xm_Imp g Γ 5 (xi_ild 1 6) from xs_iload_n hΓ dX11_init_5) rfl ?_
  obtain ⟨h1, e1, e⟩ := xo_b_s e
  refine xw_pt1 (o := (some p0)) (show xm_Imp g Γ 6 (xi_put 9 0 (.int) 9) from xs_putF hG hΓ (ci := 9) (kf := 0) rfl (Nat.le_of_ble_eq_true rfl) rfl rfl rfl (by decide +kernel) q1582 dX11_init_6) rfl (xf_int _) e1 ?_
  refine xw_ald (show xm_Imp g Γ 9 (xi_ald 0 10) from xs_aload_n hΓ dX11_init_9) rfl ?_
  refine xw_ild (show xm_Imp g Γ 10 (xi_ild 2 11) from xs_iload_n hΓ dX11_init_10) rfl ?_
  obtain ⟨_, en, e⟩ := xo_b_s e
  obtain ⟨h2, e1, e⟩ := xo_b_s e
  refine xw_pt1 (o := (some p0)) (show xm_Imp g Γ 11 (xi_put 9 1 (.boolean) 14) from xs_putF hG hΓ (ci := 9) (kf := 1) rfl (Nat.le_of_ble_eq_true rfl) rfl rfl rfl (by decide +kernel) q1584 dX11_init_11) rfl (xo_g_s en) e1 ?_
  exact xw_vret (show xm_Imp g Γ 14 (xi_vret _) from xs_return hΓ rfl dX11_init_14) (hP0 _ (xl_fin e hp))
noncomputable def F_J2_grow (g : xm_G) (p0 : Nat) (h : xm_H) (bc : Nat) (bs : Nat) (Q : Option Nat → xm_H → Prop) : Prop :=
 xt_b (xh_fi [(12, 2)] h p0) (fun v1 =>
 xt_b (xh_is 12 h p0) (fun _ =>
 xt_c bc bs (fun m2 m3 => F_J2_grow_2 g p0 (v1 + 1) h m2 m3 (fun v5 h4 =>
 Q v5 h4))))
set_option maxHeartbeats 4000000 in
theorem K_J2_grow {g : xm_G} (hG : xm_Gw g) (p0 : Nat) (h : xm_H) (bc : Nat) (bs : Nat) {Q : Option Nat → xm_H → Prop} (e : F_J2_grow g p0 h bc bs Q) : xm_Run g M_J2_grow 9 [.ref p0] h bc bs (fun v h' => ∃ r, v = some (va_rf r) ∧ Q r h') xm_no := by
  refine xm_Run.of pn_java_util_ArrayList (Nat.le_of_ble_eq_true rfl) (fun Γ hΓ => ?_)
  show xm_W g Γ 0 [some (.ref p0)] [] h bc bs
  unfold F_J2_grow at e
  refine xw_ald (show xm_Imp g Γ 0 (xi_ald 0 1) from xs_aload_n hΓ dJ2_grow_0) rfl ?_
  refine xw_ald (show xm_Imp g Γ 1 (xi_ald 0 2) from xs_aload_n hΓ dJ2_grow_1) rfl ?_
  obtain ⟨v1, e1, e⟩ := e
  refine xw_gi1 (o := (some p0)) (show xm_Imp g Γ 2 (xi_get 12 2 5) from xs_get hG hΓ (ci := 12) (kf := 2) rfl (Nat.le_of_ble_eq_true rfl) q202 dJ2_grow_2) rfl e1 ?_
  refine xw_psh (v := (.int (1))) (show xm_Imp g Γ 5 (xi_psh (.int (1)) 6) from xs_iconst hΓ dJ2_grow_5 (by decide)) ?_
  refine xw_ii (show xm_Imp g Γ 6 (xi_ii (fun x y => x + y) 7) from xs_iadd hΓ dJ2_grow_6) ?_
  obtain ⟨_, e0, e⟩ := e
  obtain ⟨m2, m3, ⟨em1, em2⟩, e⟩ := e
  refine xw_tvr1 (o := (some p0)) (show xm_Imp g Γ 7 (xi_vir g 12 M_J2_grow_2 8 1 10) from xs_invV hG hΓ k_J2_grow_2 rfl (ci := 12) rfl q1034 q1036 qs18 dJ2_grow_7) rfl rfl e0 em1 em2 (K_J2_grow_2 hG p0 (v1 + 1) _ _ _ e) (fun v5 h4 e => ?_)
  exact xw_areto (show xm_Imp g Γ 10 (xi_aret _) from xs_areturn hΓ rfl (Or.inr ⟨_, rfl⟩) dJ2_grow_10) ⟨_, rfl, e⟩
noncomputable def B_J2_add_2_11 (g : xm_G) (l0 : Nat) (l1 : Option Nat) (l2 : Option Nat) (l3 : Int32) (h : xm_H) (bc : Nat) (bs : Nat) (Q : xm_H → Prop) : Prop :=
 xt_b l2 (fun a7 =>
 xt_b (xh_sr "java/lang/Object" h a7 l3 l1) (fun h8 =>
 xt_b (xh_w [(12, 2)] h8 l0 (.int (l3 + 1))) (fun h9 =>
 Q h9)))
noncomputable def F_J2_add_2 (g : xm_G) (p0 : Nat) (p1 : Option Nat) (p2 : Option Nat) (p3 : Int32) (h : xm_H) (bc : Nat) (bs : Nat) (Q : xm_H → Prop) : Prop :=
 xt_b p2 (fun a1 =>
 xt_b (xh_len h a1) (fun v2 =>
 (if p3 = v2 then
 xt_b (xh_is 12 h p0) (fun _ =>
 xt_c bc bs (fun m3 m4 => F_J2_grow g p0 h m3 m4 (fun v6 h5 =>
 B_J2_add_2_11 g p0 p1 v6 p3 h5 (bc - m3) (bs - m4) Q))) else
 B_J2_add_2_11 g p0 p1 p2 p3 h bc bs Q)))
set_option maxHeartbeats 4000000 in
theorem K_J2_add_2 {g : xm_G} (hG : xm_Gw g) (p0 : Nat) (p1 : Option Nat) (p2 : Option Nat) (p3 : Int32) (h : xm_H) (bc : Nat) (bs : Nat) {Q : xm_H → Prop} (e : F_J2_add_2 g p0 p1 p2 p3 h bc bs Q) : xm_Run g M_J2_add_2 10 [.ref p0, va_rf p1, va_rf p2, .int p3] h bc bs (fun v h' => v = none ∧ Q h') xm_no := by
  refine xm_Run.of2 (ls := [some (.ref p0), some (va_rf p1), some (va_rf p2), some (.int p3)]) pn_java_util_ArrayList (by cases p1 <;> cases p2 <;> exact Nat.le_of_ble_eq_true rfl) (by cases p1 <;> cases p2 <;> rfl) (fun Γ hΓ => ?_)
  show xm_W g Γ 0 [some (.ref p0), some (va_rf p1), some (va_rf p2), some (.int p3)] [] h bc bs
  have hB_11 : ∀ (l0 : Nat) (l1 : Option Nat) (l2 : Option Nat) (l3 : Int32) (h : xm_H) (bc : Nat) (bs : Nat), B_J2_add_2_11 g l0 l1 l2 l3 h bc bs Q → xm_W g Γ 11 [some (.ref l0), some (va_rf l1), some (va_rf l2), some (.int l3)] [] h bc bs := by
    intro l0 l1 l2 l3 h bc bs e
    unfold B_J2_add_2_11 at e
    refine xw_aldo (x := l2) (show xm_Imp g Γ 11 (xi_ald 2 12) from xs_aload_n hΓ dJ2_add_2_11) rfl ?_
    refine xw_ild (show xm_Imp g Γ 12 (xi_ild 3 13) from xs_iload_n hΓ dJ2_add_2_12) rfl ?_
    refine xw_aldo (x := l1) (show xm_Imp g Γ 13 (xi_ald 1 14) from xs_aload_n hΓ dJ2_add_2_13) rfl ?_
    obtain ⟨a7, ha7, e⟩ := e
    obtain ⟨h8, e1, e⟩ := e
    refine xw_haas (o := l2) (v := l1) (show xm_Imp g Γ 14 (xi_aas "java/lang/Object" 15) from xs_aas hG hΓ dJ2_add_2_14) ha7 e1 ?_
    refine xw_ald (show xm_Imp g Γ 15 (xi_ald 0 16) from xs_aload_n hΓ dJ2_add_2_15) rfl ?_
    refine xw_ild (show xm_Imp g Γ 16 (xi_ild 3 17) from xs_iload_n hΓ dJ2_add_2_16) rfl ?_
    refine xw_psh (v := (.int (1))) (show xm_Imp g Γ 17 (xi_psh (.int (1)) 18) from xs_iconst hΓ dJ2_add_2_17 (by decide)) ?_
    refine xw_ii (show xm_Imp g Γ 18 (xi_ii (fun x y => x + y) 19) from xs_iadd hΓ dJ2_add_2_18) ?_
    obtain ⟨h9, e1, e⟩ := e
    refine xw_pt1 (o := (some l0)) (show xm_Imp g Γ 19 (xi_put 12 2 (.int) 22) from xs_put hG hΓ (ci := 12) (kf := 2) rfl (Nat.le_of_ble_eq_true rfl) rfl (by decide +kernel) q202 dJ2_add_2_19) rfl (xf_int _) e1 ?_
    exact xw_vret (show xm_Imp g Γ 22 (xi_vret _) from xs_return hΓ rfl dJ2_add_2_22) ⟨rfl, e⟩
  unfold F_J2_add_2 at e
  refine xw_ild (show xm_Imp g Γ 0 (xi_ild 3 1) from xs_iload_n hΓ dJ2_add_2_0) rfl ?_
  refine xw_aldo (x := p2) (show xm_Imp g Γ 1 (xi_ald 2 2) from xs_aload_n hΓ dJ2_add_2_1) rfl ?_
  obtain ⟨a1, ha1, e⟩ := e
  obtain ⟨v2, e1, e⟩ := e
  refine xw_hlen (o := p2) (show xm_Imp g Γ 2 (xi_len 3) from xs_len hG hΓ dJ2_add_2_2) ha1 e1 ?_
  refine xw_ic (show xm_Imp g Γ 3 (xi_ic (fun x y => x = y) 6 11) from xs_icmp_ne hΓ dJ2_add_2_3 (by decide)) (fun c => ?_) (fun c => ?_)
  · rw [if_pos c] at e
    refine xw_ald (show xm_Imp g Γ 6 (xi_ald 0 7) from xs_aload_n hΓ dJ2_add_2_6) rfl ?_
    obtain ⟨_, e0, e⟩ := e
    obtain ⟨m3, m4, ⟨em1, em2⟩, e⟩ := e
    refine xw_tvr0 (o := (some p0)) (show xm_Imp g Γ 7 (xi_vir g 12 M_J2_grow 9 0 10) from xs_invV hG hΓ k_J2_grow rfl (ci := 12) rfl q1030 q1032 qs17 dJ2_add_2_7) rfl rfl e0 em1 em2 (K_J2_grow hG p0 _ _ _ e) (fun v6 h5 e => ?_)
    refine xw_asto (x := v6) (ls' := [some (.ref p0), some (va_rf p1), some (va_rf v6), some (.int p3)]) (show xm_Imp g Γ 10 (xi_ast 2 11) from xs_astore_n hΓ dJ2_add_2_10 (Nat.le_of_ble_eq_true rfl)) ((xm_s1_o (o := p1) rfl).trans rfl) ?_
    exact hB_11 _ _ _ _ _ _ _ e
  · rw [if_neg c] at e
    exact hB_11 _ _ _ _ _ _ _ e
noncomputable def F_J2_add (g : xm_G) (p0 : Nat) (p1 : Option Nat) (h : xm_H) (bc : Nat) (bs : Nat) (Q : Int32 → xm_H → Prop) : Prop :=
 xt_b (xh_fi [(12, 0)] h p0) (fun v1 =>
 xt_b (xh_w [(12, 0)] h p0 (.int (v1 + 1))) (fun h2 =>
 xt_b (xh_fr [(12, 1)] h2 p0) (fun v3 =>
 xt_b (xh_fi [(12, 2)] h2 p0) (fun v4 =>
 xt_b (xh_is 12 h2 p0) (fun _ =>
 xt_c bc bs (fun m5 m6 => F_J2_add_2 g p0 p1 v3 v4 h2 m5 m6 (fun h7 =>
 Q 1 h7)))))))
set_option maxHeartbeats 4000000 in
theorem K_J2_add {g : xm_G} (hG : xm_Gw g) (p0 : Nat) (p1 : Option Nat) (h : xm_H) (bc : Nat) (bs : Nat) {Q : Int32 → xm_H → Prop} (e : F_J2_add g p0 p1 h bc bs Q) : xm_Run g M_J2_add 11 [.ref p0, va_rf p1] h bc bs (fun v h' => ∃ r, v = some (.int r) ∧ Q r h') xm_no := by
  refine xm_Run.of2 (ls := [some (.ref p0), some (va_rf p1)]) pn_java_util_ArrayList (by cases p1 <;> exact Nat.le_of_ble_eq_true rfl) (by cases p1 <;> rfl) (fun Γ hΓ => ?_)
  show xm_W g Γ 0 [some (.ref p0), some (va_rf p1)] [] h bc bs
  unfold F_J2_add at e
  refine xw_ald (show xm_Imp g Γ 0 (xi_ald 0 1) from xs_aload_n hΓ dJ2_add_0) rfl ?_
  refine xw_dup (show xm_Imp g Γ 1 (xi_dup 2) from xs_dup hΓ dJ2_add_1) rfl ?_
  obtain ⟨v1, e1, e⟩ := e
  refine xw_gi1 (o := (some p0)) (show xm_Imp g Γ 2 (xi_get 12 0 5) from xs_getS hG hΓ (ci := 12) (kf := 0) rfl (Nat.le_of_ble_eq_true rfl) q204 q205 dJ2_add_2) rfl e1 ?_
  refine xw_psh (v := (.int (1))) (show xm_Imp g Γ 5 (xi_psh (.int (1)) 6) from xs_iconst hΓ dJ2_add_5 (by decide)) ?_
  refine xw_ii (show xm_Imp g Γ 6 (xi_ii (fun x y => x + y) 7) from xs_iadd hΓ dJ2_add_6) ?_
  obtain ⟨h2, e1, e⟩ := e
  refine xw_pt1 (o := (some p0)) (show xm_Imp g Γ 7 (xi_put 12 0 (.int) 10) from xs_putS hG hΓ (ci := 12) (kf := 0) rfl (Nat.le_of_ble_eq_true rfl) rfl (by decide +kernel) q204 q205 dJ2_add_7) rfl (xf_int _) e1 ?_
  refine xw_ald (show xm_Imp g Γ 10 (xi_ald 0 11) from xs_aload_n hΓ dJ2_add_10) rfl ?_
  refine xw_aldo (x := p1) (show xm_Imp g Γ 11 (xi_ald 1 12) from xs_aload_n hΓ dJ2_add_11) rfl ?_
  refine xw_ald (show xm_Imp g Γ 12 (xi_ald 0 13) from xs_aload_n hΓ dJ2_add_12) rfl ?_
  obtain ⟨v3, e1, e⟩ := e
  refine xw_gr1 (o := (some p0)) (show xm_Imp g Γ 13 (xi_get 12 1 16) from xs_get hG hΓ (ci := 12) (kf := 1) rfl (Nat.le_of_ble_eq_true rfl) q201 dJ2_add_13) rfl e1 ?_
  refine xw_ald (show xm_Imp g Γ 16 (xi_ald 0 17) from xs_aload_n hΓ dJ2_add_16) rfl ?_
  obtain ⟨v4, e1, e⟩ := e
  refine xw_gi1 (o := (some p0)) (show xm_Imp g Γ 17 (xi_get 12 2 20) from xs_get hG hΓ (ci := 12) (kf := 2) rfl (Nat.le_of_ble_eq_true rfl) q202 dJ2_add_17) rfl e1 ?_
  obtain ⟨_, e0, e⟩ := e
  obtain ⟨m5, m6, ⟨em1, em2⟩, e⟩ := e
  refine xw_tvu3 (o := (some p0)) (show xm_Imp g Γ 20 (xi_vir g 12 M_J2_add_2 10 3 23) from xs_invV hG hΓ k_J2_add_2 rfl (ci := 12) rfl q1026 q1028 qs16 dJ2_add_20) rfl rfl e0 em1 em2 (K_J2_add_2 hG p0 p1 v3 v4 _ _ _ e) (fun h7 e => ?_)
  refine xw_psh (v := (.int (1))) (show xm_Imp g Γ 23 (xi_psh (.int (1)) 24) from xs_iconst hΓ dJ2_add_23 (by decide)) ?_
  exact xw_iret (show xm_Imp g Γ 24 (xi_iret .boolean _) from xs_ireturn hΓ rfl dJ2_add_24) rfl ⟨_, rfl, e⟩
noncomputable def D_J3_circularClear_12 (g : xm_G) (l0 : Option Nat) (l2 : Int32) (s : Int32 × Int32 × xm_H) : Option ((Int32 × Int32 × xm_H) ⊕ (xm_H)) :=
 (if s.2.1 ≤ s.1 then
 (if s.2.1 = l2 then
 xl_o (some s.2.2) else
 some (Sum.inl (0, l2, s.2.2))) else
 xo_b l0 (fun a3 =>
 xo_b (xh_sr "java/lang/Object" s.2.2 a3 s.1 none) (fun h4 =>
 some (Sum.inl ((s.1 + 1), s.2.1, h4)))))
noncomputable def L_J3_circularClear_12 (g : xm_G) (l0 : Option Nat) (l2 : Int32) (s : Int32 × Int32 × xm_H) : Option (xm_H) := xl_loop (D_J3_circularClear_12 g l0 l2) s
noncomputable def B_J3_circularClear_11 (g : xm_G) (l0 : Option Nat) (l1 : Int32) (l2 : Int32) (s0 : Int32) (h : xm_H) : Option (xm_H) :=
 L_J3_circularClear_12 g l0 l2 (l1, s0, h)
noncomputable def F_J3_circularClear (g : xm_G) (p0 : Option Nat) (p1 : Int32) (p2 : Int32) (h : xm_H) : Option (xm_H) :=
 (if p2 < p1 then
 xo_b p0 (fun a1 =>
 xo_b (xh_len h a1) (fun v2 =>
 B_J3_circularClear_11 g p0 p1 p2 v2 h)) else
 B_J3_circularClear_11 g p0 p1 p2 p2 h)
set_option maxHeartbeats 4000000 in
theorem K_J3_circularClear {g : xm_G} (hG : xm_Gw g) (p0 : Option Nat) (p1 : Int32) (p2 : Int32) (h : xm_H) {o : xm_H} (e : F_J3_circularClear g p0 p1 p2 h = some o) {Q : xm_P} {X : xm_X} (hQ : Q none o) : xm_Run g M_J3_circularClear 1 [va_rf p0, .int p1, .int p2] h 0 0 Q X := by
  refine xm_Run.of2 (ls := [some (va_rf p0), some (.int p1), some (.int p2), none]) pn_java_util_ArrayDeque (by cases p0 <;> exact Nat.le_of_ble_eq_true rfl) (by cases p0 <;> rfl) (fun Γ hΓ => ?_)
  obtain ⟨P0, hP0, hp⟩ : ∃ P : xm_H → Prop, (∀ o, P o → Q none o) ∧ P o := ⟨fun o => Q none o, fun _ h => h, hQ⟩
  clear hQ
  show xm_W g Γ 0 [some (va_rf p0), some (.int p1), some (.int p2), none] [] h 0 0
  have hL_12 : ∀ (l0 : Option Nat) (l2 : Int32) (s : Int32 × Int32 × xm_H) (o : xm_H), L_J3_circularClear_12 g l0 l2 s = some o → P0 o → xm_W g Γ 12 [some (va_rf l0), some (.int s.1), some (.int l2), some (.int s.2.1)] [] s.2.2 0 0 := by
    intro l0 l2
    refine xl_rule (WS := fun s : Int32 × Int32 × xm_H => xm_W g Γ 12 [some (va_rf l0), some (.int s.1), some (.int l2), some (.int s.2.1)] [] s.2.2 0 0) ?_
    intro s o e hp
    obtain ⟨P1, hP1, hp⟩ : ∃ P : (Int32 × Int32 × xm_H) ⊕ (xm_H) → Prop, (∀ o, P o → xl_P (fun s : Int32 × Int32 × xm_H => xm_W g Γ 12 [some (va_rf l0), some (.int s.1), some (.int l2), some (.int s.2.1)] [] s.2.2 0 0) P0 o) ∧ P o := ⟨_, fun _ h => h, hp⟩
    unfold D_J3_circularClear_12 at e
    refine xw_ild (show xm_Imp g Γ 12 (xi_ild 1 13) from xs_iload_n hΓ dJ3_circularClear_12) rfl ?_
    refine xw_ild (show xm_Imp g Γ 13 (xi_ild 3 14) from xs_iload_n hΓ dJ3_circularClear_13) rfl ?_
    refine xw_ic (show xm_Imp g Γ 14 (xi_ic (fun x y => y ≤ x) 27 17) from xs_icmp_ge hΓ dJ3_circularClear_14 (by decide)) (fun c => ?_) (fun c => ?_)
    · rw [if_pos c] at e
      refine xw_ild (show xm_Imp g Γ 27 (xi_ild 3 28) from xs_iload_n hΓ dJ3_circularClear_27) rfl ?_
      refine xw_ild (show xm_Imp g Γ 28 (xi_ild 2 29) from xs_iload_n hΓ dJ3_circularClear_28) rfl ?_
      refine xw_ic (show xm_Imp g Γ 29 (xi_ic (fun x y => x = y) 32 35) from xs_icmp_ne hΓ dJ3_circularClear_29 (by decide)) (fun c => ?_) (fun c => ?_)
      · rw [if_pos c] at e
        obtain ⟨_, e, hp⟩ := xl_o_s e (hP1 _ hp)
        refine xw_goto (show xm_Imp g Γ 32 (xi_goto 42) from xs_goto hΓ dJ3_circularClear_32 (by decide)) ?_
        exact xw_vret (show xm_Imp g Γ 42 (xi_vret _) from xs_return hΓ rfl dJ3_circularClear_42) (hP0 _ (xl_fin e hp))
      · rw [if_neg c] at e
        refine xw_psh (v := (.int (0))) (show xm_Imp g Γ 35 (xi_psh (.int (0)) 36) from xs_iconst hΓ dJ3_circularClear_35 (by decide)) ?_
        refine xw_ist (ls' := [some (va_rf l0), some (.int 0), some (.int l2), some (.int s.2.1)]) (show xm_Imp g Γ 36 (xi_ist 1 37) from xs_istore_n hΓ dJ3_circularClear_36 (Nat.le_of_ble_eq_true rfl)) ((xm_s1_o (o := l0) rfl).trans rfl) ?_
        refine xw_ild (show xm_Imp g Γ 37 (xi_ild 2 38) from xs_iload_n hΓ dJ3_circularClear_37) rfl ?_
        refine xw_ist (ls' := [some (va_rf l0), some (.int 0), some (.int l2), some (.int l2)]) (show xm_Imp g Γ 38 (xi_ist 3 39) from xs_istore_n hΓ dJ3_circularClear_38 (Nat.le_of_ble_eq_true rfl)) rfl ?_
        refine xw_goto (show xm_Imp g Γ 39 (xi_goto 12) from xs_goto hΓ dJ3_circularClear_39 (by decide)) ?_
        have hq := xl_P_inl (hP1 _ (xl_fin e hp)); exact hq
    · rw [if_neg c] at e
      refine xw_aldo (x := l0) (show xm_Imp g Γ 17 (xi_ald 0 18) from xs_aload_n hΓ dJ3_circularClear_17) rfl ?_
      refine xw_ild (show xm_Imp g Γ 18 (xi_ild 1 19) from xs_iload_n hΓ dJ3_circularClear_18) rfl ?_
      refine xw_psh (v := .null) (show xm_Imp g Γ 19 (xi_psh .null 20) from xs_null hΓ dJ3_circularClear_19) ?_
      obtain ⟨a3, ha3, e⟩ := xo_b_s e
      obtain ⟨h4, e1, e⟩ := xo_b_s e
      refine xw_haas (o := l0) (v := none) (show xm_Imp g Γ 20 (xi_aas "java/lang/Object" 21) from xs_aas hG hΓ dJ3_circularClear_20) ha3 e1 ?_
      refine xw_inc (v := (1)) (ls' := [some (va_rf l0), some (.int (s.1 + 1)), some (.int l2), some (.int s.2.1)]) (show xm_Imp g Γ 21 (xi_inc 1 (1) 24) from xs_iinc hΓ dJ3_circularClear_21 (by decide) (Nat.le_of_ble_eq_true rfl)) rfl ((xm_s1_o (o := l0) rfl).trans rfl) ?_
      refine xw_goto (show xm_Imp g Γ 24 (xi_goto 12) from xs_goto hΓ dJ3_circularClear_24 (by decide)) ?_
      have hq := xl_P_inl (hP1 _ (xl_fin e hp)); exact hq
  have hB_11 : ∀ (l0 : Option Nat) (l1 : Int32) (l2 : Int32) (s0 : Int32) (h : xm_H) (o : xm_H), B_J3_circularClear_11 g l0 l1 l2 s0 h = some o → P0 o → xm_W g Γ 11 [some (va_rf l0), some (.int l1), some (.int l2), none] [.int s0] h 0 0 := by
    intro l0 l1 l2 s0 h o e hp
    unfold B_J3_circularClear_11 at e
    refine xw_ist (ls' := [some (va_rf l0), some (.int l1), some (.int l2), some (.int s0)]) (show xm_Imp g Γ 11 (xi_ist 3 12) from xs_istore_n hΓ dJ3_circularClear_11 (Nat.le_of_ble_eq_true rfl)) rfl ?_
    exact hL_12 _ _ _ _ e hp
  unfold F_J3_circularClear at e
  refine xw_ild (show xm_Imp g Γ 0 (xi_ild 1 1) from xs_iload_n hΓ dJ3_circularClear_0) rfl ?_
  refine xw_ild (show xm_Imp g Γ 1 (xi_ild 2 2) from xs_iload_n hΓ dJ3_circularClear_1) rfl ?_
  refine xw_ic (show xm_Imp g Γ 2 (xi_ic (fun x y => y < x) 9 5) from xs_icmp_gt hΓ dJ3_circularClear_2 (by decide)) (fun c => ?_) (fun c => ?_)
  · rw [if_pos c] at e
    refine xw_aldo (x := p0) (show xm_Imp g Γ 9 (xi_ald 0 10) from xs_aload_n hΓ dJ3_circularClear_9) rfl ?_
    obtain ⟨a1, ha1, e⟩ := xo_b_s e
    obtain ⟨v2, e1, e⟩ := xo_b_s e
    refine xw_hlen (o := p0) (show xm_Imp g Γ 10 (xi_len 11) from xs_len hG hΓ dJ3_circularClear_10) ha1 e1 ?_
    exact hB_11 _ _ _ _ _ _ e hp
  · rw [if_neg c] at e
    refine xw_ild (show xm_Imp g Γ 5 (xi_ild 2 6) from xs_iload_n hΓ dJ3_circularClear_5) rfl ?_
    refine xw_goto (show xm_Imp g Γ 6 (xi_goto 11) from xs_goto hΓ dJ3_circularClear_6 (by decide)) ?_
    exact hB_11 _ _ _ _ _ _ e hp
noncomputable def F_J3_clear (g : xm_G) (p0 : Nat) (h : xm_H) : Option (xm_H) :=
 xo_b (xh_fr [(13, 0)] h p0) (fun v1 =>
 xo_b (xh_fi [(13, 1)] h p0) (fun v2 =>
 xo_b (xh_fi [(13, 2)] h p0) (fun v3 =>
 xo_b (F_J3_circularClear g v1 v2 v3 h) (fun v4 =>
 xo_b (xh_w [(13, 2)] v4 p0 (.int 0)) (fun h5 =>
 xo_b (xh_w [(13, 1)] h5 p0 (.int 0)) (fun h6 =>
 some h6))))))
set_option maxHeartbeats 4000000 in
theorem K_J3_clear {g : xm_G} (hG : xm_Gw g) (p0 : Nat) (h : xm_H) {o : xm_H} (e : F_J3_clear g p0 h = some o) {Q : xm_P} {X : xm_X} (hQ : Q none o) : xm_Run g M_J3_clear 2 [.ref p0] h 0 0 Q X := by
  refine xm_Run.of pn_java_util_ArrayDeque (Nat.le_of_ble_eq_true rfl) (fun Γ hΓ => ?_)
  obtain ⟨P0, hP0, hp⟩ : ∃ P : xm_H → Prop, (∀ o, P o → Q none o) ∧ P o := ⟨fun o => Q none o, fun _ h => h, hQ⟩
  clear hQ
  show xm_W g Γ 0 [some (.ref p0)] [] h 0 0
  unfold F_J3_clear at e
  refine xw_ald (show xm_Imp g Γ 0 (xi_ald 0 1) from xs_aload_n hΓ dJ3_clear_0) rfl ?_
  obtain ⟨v1, e1, e⟩ := xo_b_s e
  refine xw_gr1 (o := (some p0)) (show xm_Imp g Γ 1 (xi_get 13 0 4) from xs_get hG hΓ (ci := 13) (kf := 0) rfl (Nat.le_of_ble_eq_true rfl) q221 dJ3_clear_1) rfl e1 ?_
  refine xw_ald (show xm_Imp g Γ 4 (xi_ald 0 5) from xs_aload_n hΓ dJ3_clear_4) rfl ?_
  obtain ⟨v2, e1, e⟩ := xo_b_s e
  refine xw_gi1 (o := (some p0)) (show xm_Imp g Γ 5 (xi_get 13 1 8) from xs_get hG hΓ (ci := 13) (kf := 1) rfl (Nat.le_of_ble_eq_true rfl) q224 dJ3_clear_5) rfl e1 ?_
  refine xw_ald (show xm_Imp g Γ 8 (xi_ald 0 9) from xs_aload_n hΓ dJ3_clear_8) rfl ?_
  obtain ⟨v3, e1, e⟩ := xo_b_s e
  refine xw_gi1 (o := (some p0)) (show xm_Imp g Γ 9 (xi_get 13 2 12) from xs_get hG hΓ (ci := 13) (kf := 2) rfl (Nat.le_of_ble_eq_true rfl) q225 dJ3_clear_9) rfl e1 ?_
  obtain ⟨v4, e1, e⟩ := xo_b_s e
  refine xw_su3 (show xm_Imp g Γ 12 (xi_inv g M_J3_circularClear 1 3 15) from xs_invS hG hΓ k_J3_circularClear rfl q1119 q1120 dJ3_clear_12) rfl (fun Q X hQ => K_J3_circularClear hG v1 v2 v3 _ e1 hQ) ?_
  refine xw_ald (show xm_Imp g Γ 15 (xi_ald 0 16) from xs_aload_n hΓ dJ3_clear_15) rfl ?_
  refine xw_ald (show xm_Imp g Γ 16 (xi_ald 0 17) from xs_aload_n hΓ dJ3_clear_16) rfl ?_
  refine xw_psh (v := (.int (0))) (show xm_Imp g Γ 17 (xi_psh (.int (0)) 18) from xs_iconst hΓ dJ3_clear_17 (by decide)) ?_
  refine xw_dup_x1 (show xm_Imp g Γ 18 (xi_dup_x1 19) from xs_dup_x1 hΓ dJ3_clear_18) ⟨rfl, rfl⟩ ?_
  obtain ⟨h5, e1, e⟩ := xo_b_s e
  refine xw_pt1 (o := (some p0)) (show xm_Imp g Γ 19 (xi_put 13 2 (.int) 22) from xs_put hG hΓ (ci := 13) (kf := 2) rfl (Nat.le_of_ble_eq_true rfl) rfl (by decide +kernel) q225 dJ3_clear_19) rfl (xf_int _) e1 ?_
  obtain ⟨h6, e1, e⟩ := xo_b_s e
  refine xw_pt1 (o := (some p0)) (show xm_Imp g Γ 22 (xi_put 13 1 (.int) 25) from xs_put hG hΓ (ci := 13) (kf := 1) rfl (Nat.le_of_ble_eq_true rfl) rfl (by decide +kernel) q224 dJ3_clear_22) rfl (xf_int _) e1 ?_
  exact xw_vret (show xm_Imp g Γ 25 (xi_vret _) from xs_return hΓ rfl dJ3_clear_25) (hP0 _ (xl_fin e hp))
noncomputable def B_X2_measure_41 (g : xm_G) (l0 : Nat) (l3 : Int32) (l4 : Int32) (h : xm_H) (bc : Nat) (bs : Nat) (Q : Int32 → xm_H → Prop) : Prop :=
 xt_b (xh_fr [(1, 1)] h l0) (fun v5 =>
 xt_new h bc bs 2 (.inr (9, [.int 0, .int 0])) (fun a6 h7 b8 b9 =>
 xt_b (F_X11_init g a6 l3 l4 h7) (fun v10 =>
 xt_b v5 (fun a11 =>
 xt_b (xh_is 12 v10 a11) (fun _ =>
 xt_c b8 b9 (fun m12 m13 => F_J2_add g a11 (some a6) v10 m12 m13 (fun v15 h14 =>
 xt_b (xh_fr [(1, 2)] h14 l0) (fun v16 =>
 xt_b v16 (fun a17 =>
 xt_b (xh_is 13 h14 a17) (fun _ =>
 xt_b (F_J3_clear g a17 h14) (fun v18 =>
 Q l3 v18)))))))))))
noncomputable def B_X2_measure_34 (g : xm_G) (l0 : Nat) (l1 : Option Nat) (l4 : Int32) (s0 : Int32) (h : xm_H) (bc : Nat) (bs : Nat) (Q : Int32 → xm_H → Prop) : Prop :=
 xt_b (xh_is 1 h l0) (fun _ =>
 xt_c bc bs (fun m20 m21 => F_X2_replace g l0 l1 s0 h m20 m21 (fun h22 =>
 B_X2_measure_41 g l0 s0 l4 h22 (bc - m20) (bs - m21) Q)))
noncomputable def B_X2_measure_15 (g : xm_G) (l0 : Nat) (l1 : Option Nat) (l2 : Int32) (l3 : Int32) (s0 : Int32) (h : xm_H) (bc : Nat) (bs : Nat) (Q : Int32 → xm_H → Prop) : Prop :=
 (if s0 = 0 then
 B_X2_measure_41 g l0 l3 s0 h bc bs Q else
 (if l2 = 0 then
 xt_b (xh_is 1 h l0) (fun _ =>
 xt_b (F_X2_draw g l0 h) (fun v19 =>
 B_X2_measure_34 g l0 l1 s0 v19.1 v19.2 bc bs Q)) else
 B_X2_measure_34 g l0 l1 s0 l2 h bc bs Q))
noncomputable def F_X2_measure (g : xm_G) (p0 : Nat) (p1 : Option Nat) (p2 : Int32) (h : xm_H) (bc : Nat) (bs : Nat) (Q : Int32 → xm_H → Prop) : Prop :=
 xt_b (xh_is 1 h p0) (fun _ =>
 xt_c bc bs (fun m1 m2 => F_X2_determined g p0 p1 h m1 m2 (fun v4 h3 =>
 B_X2_measure_15 g p0 p1 p2 v4 (if v4 = 0 then 1 else 0) h3 (bc - m1) (bs - m2) Q)))
set_option maxHeartbeats 4000000 in
theorem K_X2_measure {g : xm_G} (hG : xm_Gw g) (p0 : Nat) (p1 : Option Nat) (p2 : Int32) (h : xm_H) (bc : Nat) (bs : Nat) {Q : Int32 → xm_H → Prop} (e : F_X2_measure g p0 p1 p2 h bc bs Q) : xm_Run g M_X2_measure 12 [.ref p0, va_rf p1, .int p2] h bc bs (fun v h' => ∃ r, v = some (.int r) ∧ Q r h') xm_no := by
  refine xm_Run.of2 (ls := [some (.ref p0), some (va_rf p1), some (.int p2), none, none]) pn_StringTableau_State (by cases p1 <;> exact Nat.le_of_ble_eq_true rfl) (by cases p1 <;> rfl) (fun Γ hΓ => ?_)
  show xm_W g Γ 0 [some (.ref p0), some (va_rf p1), some (.int p2), none, none] [] h bc bs
  have hB_41 : ∀ (l0 : Nat) (l3 : Int32) (l4 : Int32) (h : xm_H) (bc : Nat) (bs : Nat), B_X2_measure_41 g l0 l3 l4 h bc bs Q → xm_W g Γ 41 [some (.ref l0), none, none, some (.int l3), some (.int l4)] [] h bc bs := by
    intro l0 l3 l4 h bc bs e
    unfold B_X2_measure_41 at e
    refine xw_ald (show xm_Imp g Γ 41 (xi_ald 0 42) from xs_aload_n hΓ dX2_measure_41) rfl ?_
    obtain ⟨v5, e1, e⟩ := e
    refine xw_gr1 (o := (some l0)) (show xm_Imp g Γ 42 (xi_get 1 1 45) from xs_get hG hΓ (ci := 1) (kf := 1) rfl (Nat.le_of_ble_eq_true rfl) q277 dX2_measure_42) rfl e1 ?_
    refine xw_new (show xm_Imp g Γ 45 (xi_new 9 2 [.int 0, .int 0] 48) from xs_new hG hΓ (ci := 9) rfl q1576 q1577 q157 rfl tyX11 tyX11_ok (xm_df 2 (by decide +kernel)) dX2_measure_45) e (fun a6 h7 b8 b9 e => ?_)
    refine xw_dup (show xm_Imp g Γ 48 (xi_dup 49) from xs_dup hΓ dX2_measure_48) rfl ?_
    refine xw_ild (show xm_Imp g Γ 49 (xi_ild 3 50) from xs_iload_n hΓ dX2_measure_49) rfl ?_
    refine xw_ild (show xm_Imp g Γ 50 (xi_ild 4 52) from xs_iload hΓ dX2_measure_50) rfl ?_
    obtain ⟨v10, e1, e⟩ := e
    refine xw_pu2 (o := (some a6)) (show xm_Imp g Γ 52 (xi_spe g M_X11_init 2 2 55) from xs_invI hG hΓ k_X11_init rfl q1578 q1579 rfl dX2_measure_52) (by simp [xm_stk, xv_cat, xc_int, xc_long, xc_float, xc_double, xc_ref]) rfl (fun Q X hQ => K_X11_init hG a6 l3 l4 _ e1 hQ) ?_
    obtain ⟨a11, ha11, e⟩ := e
    obtain ⟨_, e0, e⟩ := e
    obtain ⟨m12, m13, ⟨em1, em2⟩, e⟩ := e
    refine xw_tvi1 (o := v5) (show xm_Imp g Γ 55 (xi_vir g 12 M_J2_add 11 1 60) from xs_invF hG hΓ k_J2_add rfl (ci := 12) rfl q1592 q1023 q1021 ⟨by decide, by decide⟩ (by decide +kernel) q1020 q1019 q1024 q1022 q903 dX2_measure_55) (by simp [xm_stk, xv_cat, xc_int, xc_long, xc_float, xc_double, xc_ref]) ha11 e0 em1 em2 (K_J2_add hG a11 (some a6) _ _ _ e) (fun v15 h14 e => ?_)
    refine xw_pop (show xm_Imp g Γ 60 (xi_pop 61) from xs_pop hΓ dX2_measure_60) rfl ?_
    refine xw_ald (show xm_Imp g Γ 61 (xi_ald 0 62) from xs_aload_n hΓ dX2_measure_61) rfl ?_
    obtain ⟨v16, e1, e⟩ := e
    refine xw_gr1 (o := (some l0)) (show xm_Imp g Γ 62 (xi_get 1 2 65) from xs_get hG hΓ (ci := 1) (kf := 2) rfl (Nat.le_of_ble_eq_true rfl) q279 dX2_measure_62) rfl e1 ?_
    obtain ⟨a17, ha17, e⟩ := e
    obtain ⟨_, e0, e⟩ := e
    obtain ⟨v18, e1, e⟩ := e
    refine xw_hu0 (o := v16) (show xm_Imp g Γ 65 (xi_vir g 13 M_J3_clear 2 0 68) from xs_invV hG hΓ k_J3_clear rfl (ci := 13) rfl q1593 q1116 q1117 dX2_measure_65) (by simp [xm_stk, xv_cat, xc_int, xc_long, xc_float, xc_double, xc_ref]) ha17 e0 (fun Q X hQ => K_J3_clear hG a17 _ e1 hQ) ?_
    refine xw_ild (show xm_Imp g Γ 68 (xi_ild 3 69) from xs_iload_n hΓ dX2_measure_68) rfl ?_
    exact xw_iret (show xm_Imp g Γ 69 (xi_iret .int _) from xs_ireturn hΓ rfl dX2_measure_69) (xn_int _) ⟨_, rfl, e⟩
  have hB_34 : ∀ (l0 : Nat) (l1 : Option Nat) (l4 : Int32) (s0 : Int32) (h : xm_H) (bc : Nat) (bs : Nat), B_X2_measure_34 g l0 l1 l4 s0 h bc bs Q → xm_W g Γ 34 [some (.ref l0), some (va_rf l1), none, none, some (.int l4)] [.int s0] h bc bs := by
    intro l0 l1 l4 s0 h bc bs e
    unfold B_X2_measure_34 at e
    refine xw_ist (ls' := [some (.ref l0), some (va_rf l1), none, some (.int s0), some (.int l4)]) (show xm_Imp g Γ 34 (xi_ist 3 35) from xs_istore_n hΓ dX2_measure_34 (Nat.le_of_ble_eq_true rfl)) rfl ?_
    refine xw_ald (show xm_Imp g Γ 35 (xi_ald 0 36) from xs_aload_n hΓ dX2_measure_35) rfl ?_
    refine xw_aldo (x := l1) (show xm_Imp g Γ 36 (xi_ald 1 37) from xs_aload_n hΓ dX2_measure_36) rfl ?_
    refine xw_ild (show xm_Imp g Γ 37 (xi_ild 3 38) from xs_iload_n hΓ dX2_measure_37) rfl ?_
    obtain ⟨_, e0, e⟩ := e
    obtain ⟨m20, m21, ⟨em1, em2⟩, e⟩ := e
    refine xw_tvu2 (o := (some l0)) (show xm_Imp g Γ 38 (xi_vir g 1 M_X2_replace 5 2 41) from xs_invV hG hΓ k_X2_replace rfl (ci := 1) rfl q1564 q1566 qs33 dX2_measure_38) rfl rfl e0 em1 em2 (K_X2_replace hG l0 l1 s0 _ _ _ e) (fun h22 e => ?_)
    exact xm_lx (hB_41 _ _ _ _ _ _ e) (And.intro rfl (And.intro rfl (And.intro rfl (trivial))))
  have hB_15 : ∀ (l0 : Nat) (l1 : Option Nat) (l2 : Int32) (l3 : Int32) (s0 : Int32) (h : xm_H) (bc : Nat) (bs : Nat), B_X2_measure_15 g l0 l1 l2 l3 s0 h bc bs Q → xm_W g Γ 15 [some (.ref l0), some (va_rf l1), some (.int l2), some (.int l3), none] [.int s0] h bc bs := by
    intro l0 l1 l2 l3 s0 h bc bs e
    unfold B_X2_measure_15 at e
    refine xw_ist (ls' := [some (.ref l0), some (va_rf l1), some (.int l2), some (.int l3), some (.int s0)]) (show xm_Imp g Γ 15 (xi_ist 4 17) from xs_istore hΓ dX2_measure_15 (Nat.le_of_ble_eq_true rfl)) rfl ?_
    refine xw_ild (show xm_Imp g Γ 17 (xi_ild 4 19) from xs_iload hΓ dX2_measure_17) rfl ?_
    refine xw_if (show xm_Imp g Γ 19 (xi_if (fun x => x = 0) 41 22) from xs_if_eq hΓ dX2_measure_19 (by decide)) (fun c => ?_) (fun c => ?_)
    · rw [if_pos c] at e
      exact xm_lx (hB_41 _ _ _ _ _ _ e) (And.intro rfl (And.intro rfl (And.intro rfl (trivial))))
    · rw [if_neg c] at e
      refine xw_ild (show xm_Imp g Γ 22 (xi_ild 2 23) from xs_iload_n hΓ dX2_measure_22) rfl ?_
      refine xw_if (show xm_Imp g Γ 23 (xi_if (fun x => x = 0) 26 33) from xs_if_ne hΓ dX2_measure_23 (by decide)) (fun c => ?_) (fun c => ?_)
      · rw [if_pos c] at e
        refine xw_ald (show xm_Imp g Γ 26 (xi_ald 0 27) from xs_aload_n hΓ dX2_measure_26) rfl ?_
        obtain ⟨_, e0, e⟩ := e
        obtain ⟨v19, e1, e⟩ := e
        refine xw_hv0 (o := (some l0)) (show xm_Imp g Γ 27 (xi_vir g 1 M_X2_draw 1 0 30) from xs_invV hG hΓ k_X2_draw rfl (ci := 1) rfl q1558 q1560 qs32 dX2_measure_27) rfl rfl e0 (fun Q X hQ => K_X2_draw hG l0 _ e1 hQ) ?_
        refine xw_goto (show xm_Imp g Γ 30 (xi_goto 34) from xs_goto hΓ dX2_measure_30 (by decide)) ?_
        exact xm_lx (hB_34 _ _ _ _ _ _ _ e) (And.intro rfl (And.intro rfl (And.intro rfl (trivial))))
      · rw [if_neg c] at e
        refine xw_ild (show xm_Imp g Γ 33 (xi_ild 2 34) from xs_iload_n hΓ dX2_measure_33) rfl ?_
        exact xm_lx (hB_34 _ _ _ _ _ _ _ e) (And.intro rfl (And.intro rfl (And.intro rfl (trivial))))
  unfold F_X2_measure at e
  refine xw_ald (show xm_Imp g Γ 0 (xi_ald 0 1) from xs_aload_n hΓ dX2_measure_0) rfl ?_
  refine xw_aldo (x := p1) (show xm_Imp g Γ 1 (xi_ald 1 2) from xs_aload_n hΓ dX2_measure_1) rfl ?_
  obtain ⟨_, e0, e⟩ := e
  obtain ⟨m1, m2, ⟨em1, em2⟩, e⟩ := e
  refine xw_tvi1 (o := (some p0)) (show xm_Imp g Γ 2 (xi_vir g 1 M_X2_determined 7 1 5) from xs_invV hG hΓ k_X2_determined rfl (ci := 1) rfl q1194 q1195 q1196 dX2_measure_2) rfl rfl e0 em1 em2 (K_X2_determined hG p0 p1 _ _ _ e) (fun v4 h3 e => ?_)
  refine xw_ist (ls' := [some (.ref p0), some (va_rf p1), some (.int p2), some (.int v4), none]) (show xm_Imp g Γ 5 (xi_ist 3 6) from xs_istore_n hΓ dX2_measure_5 (Nat.le_of_ble_eq_true rfl)) rfl ?_
  refine xw_ild (show xm_Imp g Γ 6 (xi_ild 3 7) from xs_iload_n hΓ dX2_measure_6) rfl ?_
  refine xw_if (show xm_Imp g Γ 7 (xi_if (fun x => x = 0) 10 14) from xs_if_ne hΓ dX2_measure_7 (by decide)) (fun c => ?_) (fun c => ?_)
  · rw [if_pos c] at e
    refine xw_psh (v := (.int (1))) (show xm_Imp g Γ 10 (xi_psh (.int (1)) 11) from xs_iconst hΓ dX2_measure_10 (by decide)) ?_
    refine xw_goto (show xm_Imp g Γ 11 (xi_goto 15) from xs_goto hΓ dX2_measure_11 (by decide)) ?_
    exact hB_15 _ _ _ _ _ _ _ _ e
  · rw [if_neg c] at e
    refine xw_psh (v := (.int (0))) (show xm_Imp g Γ 14 (xi_psh (.int (0)) 15) from xs_iconst hΓ dX2_measure_14 (by decide)) ?_
    exact hB_15 _ _ _ _ _ _ _ _ e
noncomputable def F_X6_byteAt (g : xm_G) (p0 : Nat) (p1 : Int32) (h : xm_H) : Option (Int32) :=
 xo_b (xh_fr [(5, 10)] h p0) (fun v1 =>
 xo_b v1 (fun a2 =>
 xo_b (xh_fi [(0, 5)] h a2) (fun v3 =>
 (if v3 ≤ p1 then
 some (-1) else
 xo_b (xh_fr [(5, 10)] h p0) (fun v4 =>
 xo_b v4 (fun a5 =>
 xo_b (xh_fr [(0, 4)] h a5) (fun v6 =>
 xo_b v6 (fun a7 =>
 xo_b (xh_ai .byte h a7 p1) (fun v8 =>
 some (v8 &&& 255))))))))))
set_option maxHeartbeats 4000000 in
theorem K_X6_byteAt {g : xm_G} (hG : xm_Gw g) (p0 : Nat) (p1 : Int32) (h : xm_H) {o : Int32} (e : F_X6_byteAt g p0 p1 h = some o) {Q : xm_P} {X : xm_X} (hQ : Q (some (.int o)) h) : xm_Run g M_X6_byteAt 1 [.ref p0, .int p1] h 0 0 Q X := by
  refine xm_Run.of pn_StringTableau_Parser (Nat.le_of_ble_eq_true rfl) (fun Γ hΓ => ?_)
  obtain ⟨P0, hP0, hp⟩ : ∃ P : Int32 → Prop, (∀ o, P o → Q (some (.int o)) h) ∧ P o := ⟨fun o => Q (some (.int o)) h, fun _ h => h, hQ⟩
  clear hQ
  show xm_W g Γ 0 [some (.ref p0), some (.int p1)] [] h 0 0
  unfold F_X6_byteAt at e
  refine xw_ild (show xm_Imp g Γ 0 (xi_ild 1 1) from xs_iload_n hΓ dX6_byteAt_0) rfl ?_
  refine xw_ald (show xm_Imp g Γ 1 (xi_ald 0 2) from xs_aload_n hΓ dX6_byteAt_1) rfl ?_
  obtain ⟨v1, e1, e⟩ := xo_b_s e
  refine xw_gr1 (o := (some p0)) (show xm_Imp g Γ 2 (xi_get 5 10 5) from xs_get hG hΓ (ci := 5) (kf := 10) rfl (Nat.le_of_ble_eq_true rfl) q733 dX6_byteAt_2) rfl e1 ?_
  obtain ⟨a2, ha2, e⟩ := xo_b_s e
  obtain ⟨v3, e1, e⟩ := xo_b_s e
  refine xw_gi1 (o := v1) (show xm_Imp g Γ 5 (xi_get 0 5 8) from xs_getN hG hΓ (ci := 0) (kf := 5) rfl (Nat.le_of_ble_eq_true rfl) q351 dX6_byteAt_5) ha2 e1 ?_
  refine xw_ic (show xm_Imp g Γ 8 (xi_ic (fun x y => y ≤ x) 27 11) from xs_icmp_ge hΓ dX6_byteAt_8 (by decide)) (fun c => ?_) (fun c => ?_)
  · rw [if_pos c] at e
    refine xw_psh (v := (.int (-1))) (show xm_Imp g Γ 27 (xi_psh (.int (-1)) 28) from xs_iconst hΓ dX6_byteAt_27 (by decide)) ?_
    have hq := hP0 _ (xl_fin e hp)
    exact xw_iret (show xm_Imp g Γ 28 (xi_iret .int _) from xs_ireturn hΓ rfl dX6_byteAt_28) (xn_int _) hq
  · rw [if_neg c] at e
    refine xw_ald (show xm_Imp g Γ 11 (xi_ald 0 12) from xs_aload_n hΓ dX6_byteAt_11) rfl ?_
    obtain ⟨v4, e1, e⟩ := xo_b_s e
    refine xw_gr1 (o := (some p0)) (show xm_Imp g Γ 12 (xi_get 5 10 15) from xs_get hG hΓ (ci := 5) (kf := 10) rfl (Nat.le_of_ble_eq_true rfl) q733 dX6_byteAt_12) rfl e1 ?_
    obtain ⟨a5, ha5, e⟩ := xo_b_s e
    obtain ⟨v6, e1, e⟩ := xo_b_s e
    refine xw_gr1 (o := v4) (show xm_Imp g Γ 15 (xi_get 0 4 18) from xs_getN hG hΓ (ci := 0) (kf := 4) rfl (Nat.le_of_ble_eq_true rfl) q350 dX6_byteAt_15) ha5 e1 ?_
    refine xw_ild (show xm_Imp g Γ 18 (xi_ild 1 19) from xs_iload_n hΓ dX6_byteAt_18) rfl ?_
    obtain ⟨a7, ha7, e⟩ := xo_b_s e
    obtain ⟨v8, e1, e⟩ := xo_b_s e
    refine xw_hbal (o := v6) (show xm_Imp g Γ 19 (xi_bal 20) from xs_bal hG hΓ dX6_byteAt_19) ha7 e1 ?_
    refine xw_psh (v := (.int (255))) (show xm_Imp g Γ 20 (xi_psh (.int (255)) 23) from xs_sipush hΓ dX6_byteAt_20 (by decide)) ?_
    refine xw_ii (show xm_Imp g Γ 23 (xi_ii (fun x y => x &&& y) 24) from xs_iand hΓ dX6_byteAt_23) ?_
    refine xw_goto (show xm_Imp g Γ 24 (xi_goto 28) from xs_goto hΓ dX6_byteAt_24 (by decide)) ?_
    have hq := hP0 _ (xl_fin e hp)
    exact xw_iret (show xm_Imp g Γ 28 (xi_iret .int _) from xs_ireturn hΓ rfl dX6_byteAt_28) (xn_int _) hq
def B_X1_inRange_14  : Int32 :=
 0
def F_X1_inRange (p0 : Int32) (p1 : Int32) (p2 : Int32) : Int32 :=
 (if p0 < p1 then
 B_X1_inRange_14 else
 (if p2 < p0 then
 B_X1_inRange_14 else
 1))
set_option maxHeartbeats 4000000 in
theorem K_X1_inRange {g : xm_G} (hG : xm_Gw g) {h : xm_H} (p0 : Int32) (p1 : Int32) (p2 : Int32) {o : Int32} (e : F_X1_inRange p0 p1 p2 = o) {Q : xm_P} {X : xm_X} (hQ : Q (some (.int o)) h) : xm_Run g M_X1_inRange 1 [.int p0, .int p1, .int p2] h 0 0 Q X := by
  refine xm_Run.of pn_StringTableau (Nat.le_of_ble_eq_true rfl) (fun Γ hΓ => ?_)
  obtain ⟨P0, hP0, hp⟩ : ∃ P : Int32 → Prop, (∀ o, P o → Q (some (.int o)) h) ∧ P o := ⟨fun o => Q (some (.int o)) h, fun _ h => h, hQ⟩
  clear hQ
  show xm_W g Γ 0 [some (.int p0), some (.int p1), some (.int p2)] [] h 0 0
  have hB_14 : ∀  (o : Int32), B_X1_inRange_14  = o → P0 o → xm_W g Γ 14 [none, none, none] [] h 0 0 := by
    intro  o e hp
    unfold B_X1_inRange_14 at e
    refine xw_psh (v := (.int (0))) (show xm_Imp g Γ 14 (xi_psh (.int (0)) 15) from xs_iconst hΓ dX1_inRange_14 (by decide)) ?_
    exact xw_iret (show xm_Imp g Γ 15 (xi_iret .boolean _) from xs_ireturn hΓ rfl dX1_inRange_15) rfl (hP0 _ (xl_finV e hp))
  unfold F_X1_inRange at e
  refine xw_ild (show xm_Imp g Γ 0 (xi_ild 0 1) from xs_iload_n hΓ dX1_inRange_0) rfl ?_
  refine xw_ild (show xm_Imp g Γ 1 (xi_ild 1 2) from xs_iload_n hΓ dX1_inRange_1) rfl ?_
  refine xw_ic (show xm_Imp g Γ 2 (xi_ic (fun x y => x < y) 14 5) from xs_icmp_lt hΓ dX1_inRange_2 (by decide)) (fun c => ?_) (fun c => ?_)
  · rw [if_pos c] at e
    exact xm_lx (hB_14 _ e hp) (trivial)
  · rw [if_neg c] at e
    refine xw_ild (show xm_Imp g Γ 5 (xi_ild 0 6) from xs_iload_n hΓ dX1_inRange_5) rfl ?_
    refine xw_ild (show xm_Imp g Γ 6 (xi_ild 2 7) from xs_iload_n hΓ dX1_inRange_6) rfl ?_
    refine xw_ic (show xm_Imp g Γ 7 (xi_ic (fun x y => y < x) 14 10) from xs_icmp_gt hΓ dX1_inRange_7 (by decide)) (fun c => ?_) (fun c => ?_)
    · rw [if_pos c] at e
      exact xm_lx (hB_14 _ e hp) (trivial)
    · rw [if_neg c] at e
      refine xw_psh (v := (.int (1))) (show xm_Imp g Γ 10 (xi_psh (.int (1)) 11) from xs_iconst hΓ dX1_inRange_10 (by decide)) ?_
      refine xw_goto (show xm_Imp g Γ 11 (xi_goto 15) from xs_goto hΓ dX1_inRange_11 (by decide)) ?_
      exact xw_iret (show xm_Imp g Γ 15 (xi_iret .boolean _) from xs_ireturn hΓ rfl dX1_inRange_15) rfl (hP0 _ (xl_finV e hp))
theorem b_X1_inRange (p0 : Int32) (p1 : Int32) (p2 : Int32) : narrow .boolean (.int (F_X1_inRange p0 p1 p2)) = .int (F_X1_inRange p0 p1 p2) := by
  unfold F_X1_inRange B_X1_inRange_14
  (repeat' split) <;> first | with_reducible exact xb_n0 | with_reducible exact xb_n1
noncomputable def F_J4_init (g : xm_G) (p0 : Nat) (p1 : Int32) (h : xm_H) (bc : Nat) (bs : Nat) (Q : xm_H → Prop) : Prop :=
 (if (1 : Int32) = 0 then
 False else
 xt_b (xa_nat p1) (fun N5 =>
 xt_new h bc bs N5 (.inl (.byte, N5, .inl (fun _ => 0))) (fun a1 h2 b3 b4 =>
 xt_b (xh_w [(14, 0)] h2 p0 (.ref a1)) (fun h6 =>
 xt_b (xh_w [(14, 1)] h6 p0 (.int 0)) (fun h7 =>
 Q h7)))))
set_option maxHeartbeats 4000000 in
theorem K_J4_init {g : xm_G} (hG : xm_Gw g) (p0 : Nat) (p1 : Int32) (h : xm_H) (bc : Nat) (bs : Nat) {Q : xm_H → Prop} (e : F_J4_init g p0 p1 h bc bs Q) : xm_Run g M_J4_init 2 [.ref p0, .int p1] h bc bs (fun v h' => v = none ∧ Q h') xm_no := by
  refine xm_Run.of pn_java_lang_AbstractStringBuilder (Nat.le_of_ble_eq_true rfl) (fun Γ hΓ => ?_)
  show xm_W g Γ 0 [some (.ref p0), some (.int p1)] [] h bc bs
  unfold F_J4_init at e
  refine xw_ald (show xm_Imp g Γ 0 (xi_ald 0 1) from xs_aload_n hΓ dJ4_init_0) rfl ?_
  refine xw_obj (o := some p0) (show xm_Imp g Γ 1 (xi_obj 4) from xs_obj hG hΓ rfl q318 dJ4_init_1) rfl rfl ?_
  refine xw_psh (v := (.int 1)) (show xm_Imp g Γ 4 (xi_psh (.int 1) 7) from xs_gst hG hΓ (st_COMPACT_STRINGS hG) q320 (lw_all_tbl q130) rfl q319 dJ4_init_4) ?_
  refine xw_if (show xm_Imp g Γ 7 (xi_if (fun x => x = 0) 25 10) from xs_if_eq hΓ dJ4_init_7 (by decide)) (fun c => ?_) (fun c => ?_)
  · rw [if_pos c] at e
    refine xw_ald (show xm_Imp g Γ 25 (xi_ald 0 26) from xs_aload_n hΓ dJ4_init_25) rfl ?_
    refine xw_ild (show xm_Imp g Γ 26 (xi_ild 1 27) from xs_iload_n hΓ dJ4_init_26) rfl ?_
    exact e.elim
  · rw [if_neg c] at e
    refine xw_ald (show xm_Imp g Γ 10 (xi_ald 0 11) from xs_aload_n hΓ dJ4_init_10) rfl ?_
    refine xw_ild (show xm_Imp g Γ 11 (xi_ild 1 12) from xs_iload_n hΓ dJ4_init_11) rfl ?_
    obtain ⟨N5, e1, e⟩ := e
    refine xw_neai (show xm_Imp g Γ 12 (xi_nea .byte xm_zi 14) from xs_newa (at0 := .byte) hG hΓ rfl (by decide) (by decide) xm_zi xm_zi_byte q342 dJ4_init_12) e1 e (fun a1 h2 b3 b4 e => ?_)
    obtain ⟨h6, e1, e⟩ := e
    refine xw_pt1 (o := (some p0)) (show xm_Imp g Γ 14 (xi_put 14 0 (.array (.byte)) 17) from xs_put hG hΓ (ci := 14) (kf := 0) rfl (Nat.le_of_ble_eq_true rfl) rfl (by decide +kernel) q328 dJ4_init_14) rfl (xv_fit (Or.inr ⟨_, rfl⟩) (some a1)) e1 ?_
    refine xw_ald (show xm_Imp g Γ 17 (xi_ald 0 18) from xs_aload_n hΓ dJ4_init_17) rfl ?_
    refine xw_psh (v := (.int (0))) (show xm_Imp g Γ 18 (xi_psh (.int (0)) 19) from xs_iconst hΓ dJ4_init_18 (by decide)) ?_
    obtain ⟨h7, e1, e⟩ := e
    refine xw_pt1 (o := (some p0)) (show xm_Imp g Γ 19 (xi_put 14 1 (.byte) 22) from xs_put hG hΓ (ci := 14) (kf := 1) rfl (Nat.le_of_ble_eq_true rfl) rfl (by decide +kernel) q329 dJ4_init_19) rfl ⟨rfl, rfl⟩ e1 ?_
    refine xw_goto (show xm_Imp g Γ 22 (xi_goto 38) from xs_goto hΓ dJ4_init_22 (by decide)) ?_
    exact xw_vret (show xm_Imp g Γ 38 (xi_vret _) from xs_return hΓ rfl dJ4_init_38) ⟨rfl, e⟩
noncomputable def F_J5_init (g : xm_G) (p0 : Nat) (h : xm_H) (bc : Nat) (bs : Nat) (Q : xm_H → Prop) : Prop :=
 xt_c bc bs (fun m1 m2 => F_J4_init g p0 16 h m1 m2 (fun h3 =>
 Q h3))
set_option maxHeartbeats 4000000 in
theorem K_J5_init {g : xm_G} (hG : xm_Gw g) (p0 : Nat) (h : xm_H) (bc : Nat) (bs : Nat) {Q : xm_H → Prop} (e : F_J5_init g p0 h bc bs Q) : xm_Run g M_J5_init 3 [.ref p0] h bc bs (fun v h' => v = none ∧ Q h') xm_no := by
  refine xm_Run.of pn_java_lang_StringBuilder (Nat.le_of_ble_eq_true rfl) (fun Γ hΓ => ?_)
  show xm_W g Γ 0 [some (.ref p0)] [] h bc bs
  unfold F_J5_init at e
  refine xw_ald (show xm_Imp g Γ 0 (xi_ald 0 1) from xs_aload_n hΓ dJ5_init_0) rfl ?_
  refine xw_psh (v := (.int (16))) (show xm_Imp g Γ 1 (xi_psh (.int (16)) 3) from xs_bipush hΓ dJ5_init_1 (by decide)) ?_
  obtain ⟨m1, m2, ⟨em1, em2⟩, e⟩ := e
  refine xw_tpu1 (o := (some p0)) (show xm_Imp g Γ 3 (xi_spe g M_J4_init 2 1 6) from xs_invI hG hΓ k_J4_init rfl q315 q316 rfl dJ5_init_3) rfl rfl em1 em2 (K_J4_init hG p0 16 _ _ _ e) (fun h3 e => ?_)
  exact xw_vret (show xm_Imp g Γ 6 (xi_vret _) from xs_return hΓ rfl dJ5_init_6) ⟨rfl, e⟩
noncomputable def F_J4_newCapacity (g : xm_G) (p0 : Nat) (p1 : Int32) (h : xm_H) : Option (Int32) :=
 xo_b (xh_fr [(14, 0)] h p0) (fun v1 =>
 xo_b v1 (fun a2 =>
 xo_b (xh_len h a2) (fun v3 =>
 xo_b (xh_fi [(14, 1)] h p0) (fun v4 =>
 xo_b (xh_fi [(14, 1)] h p0) (fun v5 =>
 xo_b (F_J8_newLength g v3 ((p1 <<< (v4 &&& 31)) - v3) (v3 + (2 <<< (v5 &&& 31))) h) (fun v6 =>
 (if v6 = (2147483647 : Int32) then
 none else
 xo_b (xh_fi [(14, 1)] h p0) (fun v7 =>
 some (v6 >>> (v7 &&& 31))))))))))
set_option maxHeartbeats 4000000 in
theorem K_J4_newCapacity {g : xm_G} (hG : xm_Gw g) (p0 : Nat) (p1 : Int32) (h : xm_H) {o : Int32} (e : F_J4_newCapacity g p0 p1 h = some o) {Q : xm_P} {X : xm_X} (hQ : Q (some (.int o)) h) : xm_Run g M_J4_newCapacity 8 [.ref p0, .int p1] h 0 0 Q X := by
  refine xm_Run.of pn_java_lang_AbstractStringBuilder (Nat.le_of_ble_eq_true rfl) (fun Γ hΓ => ?_)
  obtain ⟨P0, hP0, hp⟩ : ∃ P : Int32 → Prop, (∀ o, P o → Q (some (.int o)) h) ∧ P o := ⟨fun o => Q (some (.int o)) h, fun _ h => h, hQ⟩
  clear hQ
  show xm_W g Γ 0 [some (.ref p0), some (.int p1), none, none, none, none] [] h 0 0
  unfold F_J4_newCapacity at e
  refine xw_ald (show xm_Imp g Γ 0 (xi_ald 0 1) from xs_aload_n hΓ dJ4_newCapacity_0) rfl ?_
  obtain ⟨v1, e1, e⟩ := xo_b_s e
  refine xw_gr1 (o := (some p0)) (show xm_Imp g Γ 1 (xi_get 14 0 4) from xs_get hG hΓ (ci := 14) (kf := 0) rfl (Nat.le_of_ble_eq_true rfl) q328 dJ4_newCapacity_1) rfl e1 ?_
  obtain ⟨a2, ha2, e⟩ := xo_b_s e
  obtain ⟨v3, e1, e⟩ := xo_b_s e
  refine xw_hlen (o := v1) (show xm_Imp g Γ 4 (xi_len 5) from xs_len hG hΓ dJ4_newCapacity_4) ha2 e1 ?_
  refine xw_ist (ls' := [some (.ref p0), some (.int p1), some (.int v3), none, none, none]) (show xm_Imp g Γ 5 (xi_ist 2 6) from xs_istore_n hΓ dJ4_newCapacity_5 (Nat.le_of_ble_eq_true rfl)) rfl ?_
  refine xw_ild (show xm_Imp g Γ 6 (xi_ild 1 7) from xs_iload_n hΓ dJ4_newCapacity_6) rfl ?_
  refine xw_ald (show xm_Imp g Γ 7 (xi_ald 0 8) from xs_aload_n hΓ dJ4_newCapacity_7) rfl ?_
  obtain ⟨v4, e1, e⟩ := xo_b_s e
  refine xw_gi1 (o := (some p0)) (show xm_Imp g Γ 8 (xi_get 14 1 11) from xs_get hG hΓ (ci := 14) (kf := 1) rfl (Nat.le_of_ble_eq_true rfl) q329 dJ4_newCapacity_8) rfl e1 ?_
  refine xw_ii (show xm_Imp g Γ 11 (xi_ii (fun x y => x <<< (y &&& 31)) 12) from xs_ishl hΓ dJ4_newCapacity_11) ?_
  refine xw_ist (ls' := [some (.ref p0), some (.int p1), some (.int v3), some (.int (p1 <<< (v4 &&& 31))), none, none]) (show xm_Imp g Γ 12 (xi_ist 3 13) from xs_istore_n hΓ dJ4_newCapacity_12 (Nat.le_of_ble_eq_true rfl)) rfl ?_
  refine xw_ild (show xm_Imp g Γ 13 (xi_ild 3 14) from xs_iload_n hΓ dJ4_newCapacity_13) rfl ?_
  refine xw_ild (show xm_Imp g Γ 14 (xi_ild 2 15) from xs_iload_n hΓ dJ4_newCapacity_14) rfl ?_
  refine xw_ii (show xm_Imp g Γ 15 (xi_ii (fun x y => x - y) 16) from xs_isub hΓ dJ4_newCapacity_15) ?_
  refine xw_ist (ls' := [some (.ref p0), some (.int p1), some (.int v3), some (.int (p1 <<< (v4 &&& 31))), some (.int ((p1 <<< (v4 &&& 31)) - v3)), none]) (show xm_Imp g Γ 16 (xi_ist 4 18) from xs_istore hΓ dJ4_newCapacity_16 (Nat.le_of_ble_eq_true rfl)) rfl ?_
  refine xw_ild (show xm_Imp g Γ 18 (xi_ild 2 19) from xs_iload_n hΓ dJ4_newCapacity_18) rfl ?_
  refine xw_ild (show xm_Imp g Γ 19 (xi_ild 4 21) from xs_iload hΓ dJ4_newCapacity_19) rfl ?_
  refine xw_ild (show xm_Imp g Γ 21 (xi_ild 2 22) from xs_iload_n hΓ dJ4_newCapacity_21) rfl ?_
  refine xw_psh (v := (.int (2))) (show xm_Imp g Γ 22 (xi_psh (.int (2)) 23) from xs_iconst hΓ dJ4_newCapacity_22 (by decide)) ?_
  refine xw_ald (show xm_Imp g Γ 23 (xi_ald 0 24) from xs_aload_n hΓ dJ4_newCapacity_23) rfl ?_
  obtain ⟨v5, e1, e⟩ := xo_b_s e
  refine xw_gi1 (o := (some p0)) (show xm_Imp g Γ 24 (xi_get 14 1 27) from xs_get hG hΓ (ci := 14) (kf := 1) rfl (Nat.le_of_ble_eq_true rfl) q329 dJ4_newCapacity_24) rfl e1 ?_
  refine xw_ii (show xm_Imp g Γ 27 (xi_ii (fun x y => x <<< (y &&& 31)) 28) from xs_ishl hΓ dJ4_newCapacity_27) ?_
  refine xw_ii (show xm_Imp g Γ 28 (xi_ii (fun x y => x + y) 29) from xs_iadd hΓ dJ4_newCapacity_28) ?_
  obtain ⟨v6, e1, e⟩ := xo_b_s e
  refine xw_sv3 (show xm_Imp g Γ 29 (xi_inv g M_J8_newLength 2 3 32) from xs_invS hG hΓ k_J8_newLength rfl q434 q435 dJ4_newCapacity_29) rfl (fun Q X hQ => K_J8_newLength hG v3 ((p1 <<< (v4 &&& 31)) - v3) (v3 + (2 <<< (v5 &&& 31))) _ e1 hQ) ?_
  refine xw_ist (ls' := [some (.ref p0), some (.int p1), some (.int v3), some (.int (p1 <<< (v4 &&& 31))), some (.int ((p1 <<< (v4 &&& 31)) - v3)), some (.int v6)]) (show xm_Imp g Γ 32 (xi_ist 5 34) from xs_istore hΓ dJ4_newCapacity_32 (Nat.le_of_ble_eq_true rfl)) rfl ?_
  refine xw_ild (show xm_Imp g Γ 34 (xi_ild 5 36) from xs_iload hΓ dJ4_newCapacity_34) rfl ?_
  refine xw_psh (v := (.int (2147483647))) (show xm_Imp g Γ 36 (xi_psh (.int (2147483647)) 38) from xs_ldc hG hΓ q444 dJ4_newCapacity_36) ?_
  refine xw_ic (show xm_Imp g Γ 38 (xi_ic (fun x y => x = y) 41 51) from xs_icmp_ne hΓ dJ4_newCapacity_38 (by decide)) (fun c => ?_) (fun c => ?_)
  · rw [if_pos c] at e
    cases e
  · rw [if_neg c] at e
    refine xw_ild (show xm_Imp g Γ 51 (xi_ild 5 53) from xs_iload hΓ dJ4_newCapacity_51) rfl ?_
    refine xw_ald (show xm_Imp g Γ 53 (xi_ald 0 54) from xs_aload_n hΓ dJ4_newCapacity_53) rfl ?_
    obtain ⟨v7, e1, e⟩ := xo_b_s e
    refine xw_gi1 (o := (some p0)) (show xm_Imp g Γ 54 (xi_get 14 1 57) from xs_get hG hΓ (ci := 14) (kf := 1) rfl (Nat.le_of_ble_eq_true rfl) q329 dJ4_newCapacity_54) rfl e1 ?_
    refine xw_ii (show xm_Imp g Γ 57 (xi_ii (fun x y => x >>> (y &&& 31)) 58) from xs_ishr hΓ dJ4_newCapacity_57) ?_
    have hq := hP0 _ (xl_fin e hp)
    exact xw_iret (show xm_Imp g Γ 58 (xi_iret .int _) from xs_ireturn hΓ rfl dJ4_newCapacity_58) (xn_int _) hq
noncomputable def F_J10_copyOf (g : xm_G) (p0 : Option Nat) (p1 : Int32) (h : xm_H) (bc : Nat) (bs : Nat) (Q : Option Nat → xm_H → Prop) : Prop :=
 xt_b p0 (fun a1 =>
 xt_b (xh_len h a1) (fun v2 =>
 (if p1 = v2 then
 xt_b (xh_bytes h a1) (fun f7 =>
 xt_new h bc bs f7.1 (.inl (.byte, f7.1, .inl f7.2)) (fun a3 h4 b5 b6 =>
 xt_b (xh_castA (.byte) h4 (some a3)) (fun _ =>
 Q (some a3) h4))) else
 xt_b (xa_nat p1) (fun N12 =>
 xt_new h bc bs N12 (.inl (.byte, N12, .inl (fun _ => 0))) (fun a8 h9 b10 b11 =>
 xt_b (xh_len h9 a1) (fun v13 =>
 xt_b (xh_cpi .byte h9 a1 0 a8 0 (if p1 < v13 then p1 else v13)) (fun h14 =>
 Q (some a8) h14)))))))
set_option maxHeartbeats 4000000 in
theorem K_J10_copyOf {g : xm_G} (hG : xm_Gw g) (p0 : Option Nat) (p1 : Int32) (h : xm_H) (bc : Nat) (bs : Nat) {Q : Option Nat → xm_H → Prop} (e : F_J10_copyOf g p0 p1 h bc bs Q) : xm_Run g M_J10_copyOf 2 [va_rf p0, .int p1] h bc bs (fun v h' => ∃ r, v = some (va_rf r) ∧ Q r h') xm_no := by
  refine xm_Run.of2 (ls := [some (va_rf p0), some (.int p1), none]) pn_java_util_Arrays (by cases p0 <;> exact Nat.le_of_ble_eq_true rfl) (by cases p0 <;> rfl) (fun Γ hΓ => ?_)
  show xm_W g Γ 0 [some (va_rf p0), some (.int p1), none] [] h bc bs
  unfold F_J10_copyOf at e
  refine xw_ild (show xm_Imp g Γ 0 (xi_ild 1 1) from xs_iload_n hΓ dJ10_copyOf_0) rfl ?_
  refine xw_aldo (x := p0) (show xm_Imp g Γ 1 (xi_ald 0 2) from xs_aload_n hΓ dJ10_copyOf_1) rfl ?_
  obtain ⟨a1, ha1, e⟩ := e
  obtain ⟨v2, e1, e⟩ := e
  refine xw_hlen (o := p0) (show xm_Imp g Γ 2 (xi_len 3) from xs_len hG hΓ dJ10_copyOf_2) ha1 e1 ?_
  refine xw_ic (show xm_Imp g Γ 3 (xi_ic (fun x y => x = y) 6 14) from xs_icmp_ne hΓ dJ10_copyOf_3 (by decide)) (fun c => ?_) (fun c => ?_)
  · rw [if_pos c] at e
    refine xw_aldo (x := p0) (show xm_Imp g Γ 6 (xi_ald 0 7) from xs_aload_n hΓ dJ10_copyOf_6) rfl ?_
    obtain ⟨f7, e1, e⟩ := e
    refine xw_cln (o := p0) (show xm_Imp g Γ 7 (xi_cln 10) from xs_cln hG hΓ rfl q448 q449 q450 q451 q452 q453 dJ10_copyOf_7) ha1 (by simp [xm_stk, xv_cat, xc_int, xc_long, xc_float, xc_double, xc_ref]) e1 e (fun a3 h4 b5 b6 e => ?_)
    obtain ⟨_, e1, e⟩ := e
    refine xw_castA (o := (some a3)) (show xm_Imp g Γ 10 (xi_castA (.byte) 13) from xs_castB hG hΓ (ty := .byte) (by decide +kernel) q454 dJ10_copyOf_10) e1 ?_
    exact xw_aret (show xm_Imp g Γ 13 (xi_aret _) from xs_areturn hΓ rfl (Or.inr ⟨_, rfl⟩) dJ10_copyOf_13) ⟨_, rfl, e⟩
  · rw [if_neg c] at e
    refine xw_ild (show xm_Imp g Γ 14 (xi_ild 1 15) from xs_iload_n hΓ dJ10_copyOf_14) rfl ?_
    obtain ⟨N12, e1, e⟩ := e
    refine xw_neai (show xm_Imp g Γ 15 (xi_nea .byte xm_zi 17) from xs_newa (at0 := .byte) hG hΓ rfl (by decide) (by decide) xm_zi xm_zi_byte q342 dJ10_copyOf_15) e1 e (fun a8 h9 b10 b11 e => ?_)
    refine xw_ast (ls' := [some (va_rf p0), some (.int p1), some (.ref a8)]) (show xm_Imp g Γ 17 (xi_ast 2 18) from xs_astore_n hΓ dJ10_copyOf_17 (Nat.le_of_ble_eq_true rfl)) rfl ?_
    refine xw_aldo (x := p0) (show xm_Imp g Γ 18 (xi_ald 0 19) from xs_aload_n hΓ dJ10_copyOf_18) rfl ?_
    refine xw_psh (v := (.int (0))) (show xm_Imp g Γ 19 (xi_psh (.int (0)) 20) from xs_iconst hΓ dJ10_copyOf_19 (by decide)) ?_
    refine xw_ald (show xm_Imp g Γ 20 (xi_ald 2 21) from xs_aload_n hΓ dJ10_copyOf_20) rfl ?_
    refine xw_psh (v := (.int (0))) (show xm_Imp g Γ 21 (xi_psh (.int (0)) 22) from xs_iconst hΓ dJ10_copyOf_21 (by decide)) ?_
    refine xw_aldo (x := p0) (show xm_Imp g Γ 22 (xi_ald 0 23) from xs_aload_n hΓ dJ10_copyOf_22) rfl ?_
    obtain ⟨v13, e1, e⟩ := e
    refine xw_hlen (o := p0) (show xm_Imp g Γ 23 (xi_len 24) from xs_len hG hΓ dJ10_copyOf_23) ha1 e1 ?_
    refine xw_ild (show xm_Imp g Γ 24 (xi_ild 1 25) from xs_iload_n hΓ dJ10_copyOf_24) rfl ?_
    refine xw_mm (show xm_Imp g Γ 25 (xi_mm (fun x y => if y < x then y else x) 28) from xs_mmin hG hΓ rfl q455 dJ10_copyOf_25) (by simp [xm_stk, xv_cat, xc_int, xc_long, xc_float, xc_double, xc_ref]) ?_
    obtain ⟨h14, e1, e⟩ := e
    refine xw_cpi (o := p0) (o1 := (some a8)) (show xm_Imp g Γ 28 (xi_cpi .byte 31) from xs_cpi hG hΓ (ty := .byte) rfl rfl q458 dJ10_copyOf_28) ha1 rfl rfl e1 ?_
    refine xw_ald (show xm_Imp g Γ 31 (xi_ald 2 32) from xs_aload_n hΓ dJ10_copyOf_31) rfl ?_
    exact xw_aret (show xm_Imp g Γ 32 (xi_aret _) from xs_areturn hΓ rfl (Or.inr ⟨_, rfl⟩) dJ10_copyOf_32) ⟨_, rfl, e⟩
