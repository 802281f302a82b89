/-! METHODS ON KNOWN CELLS as functions (printed by gen/mkhfun.py) -/
set_option maxRecDepth 100000
noncomputable def F_J0_init (g : xm_G) (p0 : Nat) (h : xm_H) : Option (Unit) :=
 some ()
set_option maxHeartbeats 4000000 in
theorem K_J0_init {g : xm_G} (hG : xm_Gw g) (p0 : Nat) (h : xm_H) {o : Unit} (e : F_J0_init g p0 h = some o) {Q : xm_P} {X : xm_X} (hQ : Q none h) : xm_Run g M_J0_init 2 [.ref p0] h 0 0 Q X := by
  refine xm_Run.of pn_java_util_AbstractCollection (Nat.le_of_ble_eq_true rfl) (fun Γ hΓ => ?_)
  obtain ⟨P0, hP0, hp⟩ : ∃ P : Unit → Prop, (∀ o, P o → Q none h) ∧ P o := ⟨fun o => Q none h, fun _ h => h, hQ⟩
  clear hQ
  show xm_W g Γ 0 [some (.ref p0)] [] h 0 0
  unfold F_J0_init at e
  refine xw_ald (show xm_Imp g Γ 0 (xi_ald 0 1) from xs_aload_n hΓ dJ0_init_0) rfl ?_
  refine xw_obj (o := some p0) (show xm_Imp g Γ 1 (xi_obj 4) from xs_obj hG hΓ rfl q198 dJ0_init_1) rfl rfl ?_
  exact xw_vret (show xm_Imp g Γ 4 (xi_vret _) from xs_return hΓ rfl dJ0_init_4) (hP0 _ (xl_fin e hp))
noncomputable def F_J1_init (g : xm_G) (p0 : Nat) (h : xm_H) : Option (xm_H) :=
 xo_b (F_J0_init g p0 h) (fun v1 =>
 xo_b (xh_w [(12, 0)] h p0 (.int 0)) (fun h2 =>
 some h2))
set_option maxHeartbeats 4000000 in
theorem K_J1_init {g : xm_G} (hG : xm_Gw g) (p0 : Nat) (h : xm_H) {o : xm_H} (e : F_J1_init g p0 h = some o) {Q : xm_P} {X : xm_X} (hQ : Q none o) : xm_Run g M_J1_init 3 [.ref p0] h 0 0 Q X := by
  refine xm_Run.of pn_java_util_AbstractList (Nat.le_of_ble_eq_true rfl) (fun Γ hΓ => ?_)
  obtain ⟨P0, hP0, hp⟩ : ∃ P : xm_H → Prop, (∀ o, P o → Q none o) ∧ P o := ⟨fun o => Q none o, fun _ h => h, hQ⟩
  clear hQ
  show xm_W g Γ 0 [some (.ref p0)] [] h 0 0
  unfold F_J1_init at e
  refine xw_ald (show xm_Imp g Γ 0 (xi_ald 0 1) from xs_aload_n hΓ dJ1_init_0) rfl ?_
  obtain ⟨v1, e1, e⟩ := xo_b_s e
  refine xw_pu0 (o := (some p0)) (show xm_Imp g Γ 1 (xi_spe g M_J0_init 2 0 4) from xs_invI hG hΓ k_J0_init rfl q195 q196 rfl dJ1_init_1) rfl rfl (fun Q X hQ => K_J0_init hG p0 _ e1 hQ) ?_
  refine xw_ald (show xm_Imp g Γ 4 (xi_ald 0 5) from xs_aload_n hΓ dJ1_init_4) rfl ?_
  refine xw_psh (v := (.int (0))) (show xm_Imp g Γ 5 (xi_psh (.int (0)) 6) from xs_iconst hΓ dJ1_init_5 (by decide)) ?_
  obtain ⟨h2, e1, e⟩ := xo_b_s e
  refine xw_pt1 (o := (some p0)) (show xm_Imp g Γ 6 (xi_put 12 0 (.int) 9) from xs_put hG hΓ (ci := 12) (kf := 0) rfl (Nat.le_of_ble_eq_true rfl) rfl (by decide +kernel) q203 dJ1_init_6) rfl (xf_int _) e1 ?_
  exact xw_vret (show xm_Imp g Γ 9 (xi_vret _) from xs_return hΓ rfl dJ1_init_9) (hP0 _ (xl_fin e hp))
noncomputable def F_J2_init (g : xm_G) (p0 : Nat) (h : xm_H) : Option (xm_H) :=
 xo_b (F_J1_init g p0 h) (fun v1 =>
 xo_b (xh_w [(12, 1)] v1 p0 (va_rf (xm_sto g "java/util/ArrayList" "DEFAULTCAPACITY_EMPTY_ELEMENTDATA" "[Ljava/lang/Object;"))) (fun h2 =>
 some h2))
set_option maxHeartbeats 4000000 in
theorem K_J2_init {g : xm_G} (hG : xm_Gw g) (p0 : Nat) (h : xm_H) {o : xm_H} (e : F_J2_init g p0 h = some o) {Q : xm_P} {X : xm_X} (hQ : Q none o) : xm_Run g M_J2_init 4 [.ref p0] h 0 0 Q X := by
  refine xm_Run.of pn_java_util_ArrayList (Nat.le_of_ble_eq_true rfl) (fun Γ hΓ => ?_)
  obtain ⟨P0, hP0, hp⟩ : ∃ P : xm_H → Prop, (∀ o, P o → Q none o) ∧ P o := ⟨fun o => Q none o, fun _ h => h, hQ⟩
  clear hQ
  show xm_W g Γ 0 [some (.ref p0)] [] h 0 0
  unfold F_J2_init at e
  refine xw_ald (show xm_Imp g Γ 0 (xi_ald 0 1) from xs_aload_n hΓ dJ2_init_0) rfl ?_
  obtain ⟨v1, e1, e⟩ := xo_b_s e
  refine xw_pu0 (o := (some p0)) (show xm_Imp g Γ 1 (xi_spe g M_J1_init 3 0 4) from xs_invI hG hΓ k_J1_init rfl q192 q193 rfl dJ2_init_1) rfl rfl (fun Q X hQ => K_J1_init hG p0 _ e1 hQ) ?_
  refine xw_ald (show xm_Imp g Γ 4 (xi_ald 0 5) from xs_aload_n hΓ dJ2_init_4) rfl ?_
  refine xw_psho (o := xm_sto g "java/util/ArrayList" "DEFAULTCAPACITY_EMPTY_ELEMENTDATA" "[Ljava/lang/Object;") (show xm_Imp g Γ 5 (xi_psh (xm_stv g "java/util/ArrayList" "DEFAULTCAPACITY_EMPTY_ELEMENTDATA" "[Ljava/lang/Object;") 8) from xs_gst hG hΓ (st_DEFAULTCAPACITY_EMPTY_ELEMENTDATA hG) q200 (lw_all_tbl q124) rfl q199 dJ2_init_5) (so_DEFAULTCAPACITY_EMPTY_ELEMENTDATA hG) ?_
  obtain ⟨h2, e1, e⟩ := xo_b_s e
  refine xw_pt1 (o := (some p0)) (show xm_Imp g Γ 8 (xi_put 12 1 (.array (.object "java/lang/Object")) 11) from xs_put hG hΓ (ci := 12) (kf := 1) rfl (Nat.le_of_ble_eq_true rfl) rfl (by decide +kernel) q201 dJ2_init_8) rfl (xv_fit (Or.inr ⟨_, rfl⟩) (xm_sto g "java/util/ArrayList" "DEFAULTCAPACITY_EMPTY_ELEMENTDATA" "[Ljava/lang/Object;")) e1 ?_
  exact xw_vret (show xm_Imp g Γ 11 (xi_vret _) from xs_return hΓ rfl dJ2_init_11) (hP0 _ (xl_fin e hp))
noncomputable def F_J3_init (g : xm_G) (p0 : Nat) (h : xm_H) (bc : Nat) (bs : Nat) (Q : xm_H → Prop) : Prop :=
 xt_b (F_J0_init g p0 h) (fun v1 =>
 xt_b (xa_nat 17) (fun N6 =>
 xt_new h bc bs N6 (.inl (.object "java/lang/Object", N6, .inr (.inr (.inr (.inr (fun _ => none)))))) (fun a2 h3 b4 b5 =>
 xt_b (xh_w [(13, 0)] h3 p0 (.ref a2)) (fun h7 =>
 Q h7))))
set_option maxHeartbeats 4000000 in
theorem K_J3_init {g : xm_G} (hG : xm_Gw g) (p0 : Nat) (h : xm_H) (bc : Nat) (bs : Nat) {Q : xm_H → Prop} (e : F_J3_init g p0 h bc bs Q) : xm_Run g M_J3_init 3 [.ref p0] h bc bs (fun v h' => v = none ∧ Q h') xm_no := by
  refine xm_Run.of pn_java_util_ArrayDeque (Nat.le_of_ble_eq_true rfl) (fun Γ hΓ => ?_)
  show xm_W g Γ 0 [some (.ref p0)] [] h bc bs
  unfold F_J3_init at e
  refine xw_ald (show xm_Imp g Γ 0 (xi_ald 0 1) from xs_aload_n hΓ dJ3_init_0) rfl ?_
  obtain ⟨v1, e1, e⟩ := e
  refine xw_pu0 (o := (some p0)) (show xm_Imp g Γ 1 (xi_spe g M_J0_init 2 0 4) from xs_invI hG hΓ k_J0_init rfl q218 q196 rfl dJ3_init_1) rfl rfl (fun Q X hQ => K_J0_init hG p0 _ e1 hQ) ?_
  refine xw_ald (show xm_Imp g Γ 4 (xi_ald 0 5) from xs_aload_n hΓ dJ3_init_4) rfl ?_
  refine xw_psh (v := (.int (17))) (show xm_Imp g Γ 5 (xi_psh (.int (17)) 7) from xs_bipush hΓ dJ3_init_5 (by decide)) ?_
  obtain ⟨N6, e1, e⟩ := e
  refine xw_nra (show xm_Imp g Γ 7 (xi_nra "java/lang/Object" 10) from xs_anew hG hΓ (by decide) q219 q220 dJ3_init_7) e1 e (fun a2 h3 b4 b5 e => ?_)
  obtain ⟨h7, e1, e⟩ := e
  refine xw_pt1 (o := (some p0)) (show xm_Imp g Γ 10 (xi_put 13 0 (.array (.object "java/lang/Object")) 13) from xs_put hG hΓ (ci := 13) (kf := 0) rfl (Nat.le_of_ble_eq_true rfl) rfl (by decide +kernel) q221 dJ3_init_10) rfl (xv_fit (Or.inr ⟨_, rfl⟩) (some a2)) e1 ?_
  exact xw_vret (show xm_Imp g Γ 13 (xi_vret _) from xs_return hΓ rfl dJ3_init_13) ⟨rfl, e⟩
noncomputable def F_X4_init (g : xm_G) (p0 : Nat) (p1 : Int32) (p2 : Int32) (p3 : Int32) (h : xm_H) : Option (xm_H) :=
 xo_b (xh_w [(3, 0)] h p0 (.int p1)) (fun h1 =>
 xo_b (xh_w [(3, 1)] h1 p0 (.int p2)) (fun h2 =>
 xo_b (xo_g (narrow .boolean (.int p3) = .int p3 ∧ fits .boolean (.int p3) = true)) (fun _ =>
 xo_b (xh_w [(3, 2)] h2 p0 (.int p3)) (fun h3 =>
 some h3))))
set_option maxHeartbeats 4000000 in
theorem K_X4_init {g : xm_G} (hG : xm_Gw g) (p0 : Nat) (p1 : Int32) (p2 : Int32) (p3 : Int32) (h : xm_H) {o : xm_H} (e : F_X4_init g p0 p1 p2 p3 h = some o) {Q : xm_P} {X : xm_X} (hQ : Q none o) : xm_Run g M_X4_init 2 [.ref p0, .int p1, .int p2, .int p3] h 0 0 Q X := by
  refine xm_Run.of pn_StringTableau_Row (Nat.le_of_ble_eq_true rfl) (fun Γ hΓ => ?_)
  obtain ⟨P0, hP0, hp⟩ : ∃ P : xm_H → Prop, (∀ o, P o → Q none o) ∧ P o := ⟨fun o => Q none o, fun _ h => h, hQ⟩
  clear hQ
  show xm_W g Γ 0 [some (.ref p0), some (.int p1), some (.int p2), some (.int p3)] [] h 0 0
  unfold F_X4_init at e
  refine xw_ald (show xm_Imp g Γ 0 (xi_ald 0 1) from xs_aload_n hΓ dX4_init_0) rfl ?_
  refine xw_obj (o := some p0) (show xm_Imp g Γ 1 (xi_obj 4) from xs_obj hG hΓ rfl q245 dX4_init_1) rfl rfl ?_
  refine xw_ald (show xm_Imp g Γ 4 (xi_ald 0 5) from xs_aload_n hΓ dX4_init_4) rfl ?_
  refine xw_ild (show xm_Imp g Γ 5 (xi_ild 1 6) from xs_iload_n hΓ dX4_init_5) rfl ?_
  obtain ⟨h1, e1, e⟩ := xo_b_s e
  refine xw_pt1 (o := (some p0)) (show xm_Imp g Γ 6 (xi_put 3 0 (.int) 9) from xs_put hG hΓ (ci := 3) (kf := 0) rfl (Nat.le_of_ble_eq_true rfl) rfl (by decide +kernel) q246 dX4_init_6) rfl (xf_int _) e1 ?_
  refine xw_ald (show xm_Imp g Γ 9 (xi_ald 0 10) from xs_aload_n hΓ dX4_init_9) rfl ?_
  refine xw_ild (show xm_Imp g Γ 10 (xi_ild 2 11) from xs_iload_n hΓ dX4_init_10) rfl ?_
  obtain ⟨h2, e1, e⟩ := xo_b_s e
  refine xw_pt1 (o := (some p0)) (show xm_Imp g Γ 11 (xi_put 3 1 (.int) 14) from xs_put hG hΓ (ci := 3) (kf := 1) rfl (Nat.le_of_ble_eq_true rfl) rfl (by decide +kernel) q251 dX4_init_11) rfl (xf_int _) e1 ?_
  refine xw_ald (show xm_Imp g Γ 14 (xi_ald 0 15) from xs_aload_n hΓ dX4_init_14) rfl ?_
  refine xw_ild (show xm_Imp g Γ 15 (xi_ild 3 16) from xs_iload_n hΓ dX4_init_15) rfl ?_
  obtain ⟨_, en, e⟩ := xo_b_s e
  obtain ⟨h3, e1, e⟩ := xo_b_s e
  refine xw_pt1 (o := (some p0)) (show xm_Imp g Γ 16 (xi_put 3 2 (.boolean) 19) from xs_put hG hΓ (ci := 3) (kf := 2) rfl (Nat.le_of_ble_eq_true rfl) rfl (by decide +kernel) q256 dX4_init_16) rfl (xo_g_s en) e1 ?_
  exact xw_vret (show xm_Imp g Γ 19 (xi_vret _) from xs_return hΓ rfl dX4_init_19) (hP0 _ (xl_fin e hp))
noncomputable def D_X3_init_14 (g : xm_G) (l0 : Nat) (l1 : Int32) (Q : xm_H → Prop) (k14 : Int32 × xm_H × Nat × Nat → Prop) (s : Int32 × xm_H × Nat × Nat) : Prop :=
 (if l1 ≤ s.1 then
 Q s.2.1 else
 xt_b (xh_fr [(2, 0)] s.2.1 l0) (fun v7 =>
 xt_new s.2.1 s.2.2.1 s.2.2.2 3 (.inr (3, [.int 0, .int 0, .int 0])) (fun a8 h9 b10 b11 =>
 xt_b (F_X4_init g a8 0 (1 <<< (s.1 &&& 31)) 0 h9) (fun v12 =>
 xt_b v7 (fun a13 =>
 xt_b (xh_sr "StringTableau$Row" v12 a13 s.1 (some a8)) (fun h14 =>
 k14 ((s.1 + 1), h14, b10, b11)))))))
noncomputable def L_X3_init_14 (g : xm_G) (l0 : Nat) (l1 : Int32) (Q : xm_H → Prop) (s : Int32 × xm_H × Nat × Nat) : Prop := xt_loop (D_X3_init_14 g l0 l1 Q) s
noncomputable def F_X3_init (g : xm_G) (p0 : Nat) (p1 : Int32) (h : xm_H) (bc : Nat) (bs : Nat) (Q : xm_H → Prop) : Prop :=
 xt_b (xa_nat p1) (fun N5 =>
 xt_new h bc bs N5 (.inl (.object "StringTableau$Row", N5, .inr (.inr (.inr (.inr (fun _ => none)))))) (fun a1 h2 b3 b4 =>
 xt_b (xh_w [(2, 0)] h2 p0 (.ref a1)) (fun h6 =>
 L_X3_init_14 g p0 p1 Q (0, h6, b3, b4))))
set_option maxHeartbeats 4000000 in
theorem K_X3_init {g : xm_G} (hG : xm_Gw g) (p0 : Nat) (p1 : Int32) (h : xm_H) (bc : Nat) (bs : Nat) {Q : xm_H → Prop} (e : F_X3_init g p0 p1 h bc bs Q) : xm_Run g M_X3_init 3 [.ref p0, .int p1] h bc bs (fun v h' => v = none ∧ Q h') xm_no := by
  refine xm_Run.of pn_StringTableau_Tableau (Nat.le_of_ble_eq_true rfl) (fun Γ hΓ => ?_)
  show xm_W g Γ 0 [some (.ref p0), some (.int p1), none] [] h bc bs
  have hL_14 : ∀ (l0 : Nat) (l1 : Int32) (s : Int32 × xm_H × Nat × Nat), L_X3_init_14 g l0 l1 Q s → xm_W g Γ 14 [some (.ref l0), some (.int l1), some (.int s.1)] [] s.2.1 s.2.2.1 s.2.2.2 := by
    intro l0 l1
    refine xt_rule (WS := fun s : Int32 × xm_H × Nat × Nat => xm_W g Γ 14 [some (.ref l0), some (.int l1), some (.int s.1)] [] s.2.1 s.2.2.1 s.2.2.2) ?_
    intro k14 hk14 s e
    unfold D_X3_init_14 at e
    refine xw_ild (show xm_Imp g Γ 14 (xi_ild 2 15) from xs_iload_n hΓ dX3_init_14) rfl ?_
    refine xw_ild (show xm_Imp g Γ 15 (xi_ild 1 16) from xs_iload_n hΓ dX3_init_15) rfl ?_
    refine xw_ic (show xm_Imp g Γ 16 (xi_ic (fun x y => y ≤ x) 43 19) from xs_icmp_ge hΓ dX3_init_16 (by decide)) (fun c => ?_) (fun c => ?_)
    · rw [if_pos c] at e
      exact xw_vret (show xm_Imp g Γ 43 (xi_vret _) from xs_return hΓ rfl dX3_init_43) ⟨rfl, e⟩
    · rw [if_neg c] at e
      refine xw_ald (show xm_Imp g Γ 19 (xi_ald 0 20) from xs_aload_n hΓ dX3_init_19) rfl ?_
      obtain ⟨v7, e1, e⟩ := e
      refine xw_gr1 (o := (some l0)) (show xm_Imp g Γ 20 (xi_get 2 0 23) from xs_get hG hΓ (ci := 2) (kf := 0) rfl (Nat.le_of_ble_eq_true rfl) q268 dX3_init_20) rfl e1 ?_
      refine xw_ild (show xm_Imp g Γ 23 (xi_ild 2 24) from xs_iload_n hΓ dX3_init_23) rfl ?_
      refine xw_new (show xm_Imp g Γ 24 (xi_new 3 3 [.int 0, .int 0, .int 0] 27) from xs_new hG hΓ (ci := 3) rfl q239 q241 q127 rfl tyX4 tyX4_ok (xm_df 3 (by decide +kernel)) dX3_init_24) e (fun a8 h9 b10 b11 e => ?_)
      refine xw_dup (show xm_Imp g Γ 27 (xi_dup 28) from xs_dup hΓ dX3_init_27) rfl ?_
      refine xw_psh (v := (.int (0))) (show xm_Imp g Γ 28 (xi_psh (.int (0)) 29) from xs_iconst hΓ dX3_init_28 (by decide)) ?_
      refine xw_psh (v := (.int (1))) (show xm_Imp g Γ 29 (xi_psh (.int (1)) 30) from xs_iconst hΓ dX3_init_29 (by decide)) ?_
      refine xw_ild (show xm_Imp g Γ 30 (xi_ild 2 31) from xs_iload_n hΓ dX3_init_30) rfl ?_
      refine xw_ii (show xm_Imp g Γ 31 (xi_ii (fun x y => x <<< (y &&& 31)) 32) from xs_ishl hΓ dX3_init_31) ?_
      refine xw_psh (v := (.int (0))) (show xm_Imp g Γ 32 (xi_psh (.int (0)) 33) from xs_iconst hΓ dX3_init_32 (by decide)) ?_
      obtain ⟨v12, e1, e⟩ := e
      refine xw_pu3 (o := (some a8)) (show xm_Imp g Γ 33 (xi_spe g M_X4_init 2 3 36) from xs_invI hG hΓ k_X4_init rfl q242 q243 rfl dX3_init_33) (by simp [xm_stk, xv_cat, xc_int, xc_long, xc_float, xc_double, xc_ref]) rfl (fun Q X hQ => K_X4_init hG a8 0 (1 <<< (s.1 &&& 31)) 0 _ e1 hQ) ?_
      obtain ⟨a13, ha13, e⟩ := e
      obtain ⟨h14, e1, e⟩ := e
      refine xw_haas (o := v7) (v := (some a8)) (show xm_Imp g Γ 36 (xi_aas "StringTableau$Row" 37) from xs_aas hG hΓ dX3_init_36) ha13 e1 ?_
      refine xw_inc (v := (1)) (ls' := [some (.ref l0), some (.int l1), some (.int (s.1 + 1))]) (show xm_Imp g Γ 37 (xi_inc 2 (1) 40) from xs_iinc hΓ dX3_init_37 (by decide) (Nat.le_of_ble_eq_true rfl)) rfl rfl ?_
      refine xw_goto (show xm_Imp g Γ 40 (xi_goto 14) from xs_goto hΓ dX3_init_40 (by decide)) ?_
      have hq := hk14 _ e; exact hq
  unfold F_X3_init at e
  refine xw_ald (show xm_Imp g Γ 0 (xi_ald 0 1) from xs_aload_n hΓ dX3_init_0) rfl ?_
  refine xw_obj (o := some p0) (show xm_Imp g Γ 1 (xi_obj 4) from xs_obj hG hΓ rfl q238 dX3_init_1) rfl rfl ?_
  refine xw_ald (show xm_Imp g Γ 4 (xi_ald 0 5) from xs_aload_n hΓ dX3_init_4) rfl ?_
  refine xw_ild (show xm_Imp g Γ 5 (xi_ild 1 6) from xs_iload_n hΓ dX3_init_5) rfl ?_
  obtain ⟨N5, e1, e⟩ := e
  refine xw_nra (show xm_Imp g Γ 6 (xi_nra "StringTableau$Row" 9) from xs_anew hG hΓ (by decide) q239 q240 dX3_init_6) e1 e (fun a1 h2 b3 b4 e => ?_)
  obtain ⟨h6, e1, e⟩ := e
  refine xw_pt1 (o := (some p0)) (show xm_Imp g Γ 9 (xi_put 2 0 (.array (.object "StringTableau$Row")) 12) from xs_putF hG hΓ (ci := 2) (kf := 0) rfl (Nat.le_of_ble_eq_true rfl) rfl rfl rfl (by decide +kernel) q268 dX3_init_9) rfl (xv_fit (Or.inr ⟨_, rfl⟩) (some a1)) e1 ?_
  refine xw_psh (v := (.int (0))) (show xm_Imp g Γ 12 (xi_psh (.int (0)) 13) from xs_iconst hΓ dX3_init_12 (by decide)) ?_
  refine xw_ist (ls' := [some (.ref p0), some (.int p1), some (.int 0)]) (show xm_Imp g Γ 13 (xi_ist 2 14) from xs_istore_n hΓ dX3_init_13 (Nat.le_of_ble_eq_true rfl)) rfl ?_
  exact hL_14 _ _ _ e
noncomputable def F_X2_init (g : xm_G) (p0 : Nat) (p1 : Int32) (p2 : Int32) (h : xm_H) (bc : Nat) (bs : Nat) (Q : xm_H → Prop) : Prop :=
 xt_new h bc bs 3 (.inr (12, [.int 0, .null, .int 0])) (fun a1 h2 b3 b4 =>
 xt_b (F_J2_init g a1 h2) (fun v5 =>
 xt_b (xh_w [(1, 1)] v5 p0 (.ref a1)) (fun h6 =>
 xt_new h6 b3 b4 3 (.inr (13, [.null, .int 0, .int 0])) (fun a7 h8 b9 b10 =>
 xt_c b9 b10 (fun m11 m12 => F_J3_init g a7 h8 m11 m12 (fun h13 =>
 xt_b (xh_w [(1, 2)] h13 p0 (.ref a7)) (fun h15 =>
 xt_b (xa_nat 60) (fun N20 =>
 xt_new h15 (b9 - m11) (b10 - m12) N20 (.inl (.int, N20, .inl (fun _ => 0))) (fun a16 h17 b18 b19 =>
 xt_b (xh_w [(1, 3)] h17 p0 (.ref a16)) (fun h21 =>
 xt_new h21 b18 b19 1 (.inr (2, [.null])) (fun a22 h23 b24 b25 =>
 xt_c b24 b25 (fun m26 m27 => F_X3_init g a22 p1 h23 m26 m27 (fun h28 =>
 xt_b (xh_w [(1, 0)] h28 p0 (.ref a22)) (fun h30 =>
 xt_b (xh_w [(1, 4)] h30 p0 (.int p2)) (fun h31 =>
 Q h31)))))))))))))))
set_option maxHeartbeats 4000000 in
theorem K_X2_init {g : xm_G} (hG : xm_Gw g) (p0 : Nat) (p1 : Int32) (p2 : Int32) (h : xm_H) (bc : Nat) (bs : Nat) {Q : xm_H → Prop} (e : F_X2_init g p0 p1 p2 h bc bs Q) : xm_Run g M_X2_init 5 [.ref p0, .int p1, .int p2] h bc bs (fun v h' => v = none ∧ Q h') xm_no := by
  refine xm_Run.of pn_StringTableau_State (Nat.le_of_ble_eq_true rfl) (fun Γ hΓ => ?_)
  show xm_W g Γ 0 [some (.ref p0), some (.int p1), some (.int p2)] [] h bc bs
  unfold F_X2_init at e
  refine xw_ald (show xm_Imp g Γ 0 (xi_ald 0 1) from xs_aload_n hΓ dX2_init_0) rfl ?_
  refine xw_obj (o := some p0) (show xm_Imp g Γ 1 (xi_obj 4) from xs_obj hG hΓ rfl q186 dX2_init_1) rfl rfl ?_
  refine xw_ald (show xm_Imp g Γ 4 (xi_ald 0 5) from xs_aload_n hΓ dX2_init_4) rfl ?_
  refine xw_new (show xm_Imp g Γ 5 (xi_new 12 3 [.int 0, .null, .int 0] 8) from xs_new hG hΓ (ci := 12) rfl q187 q188 q124 rfl tyJ2 tyJ2_ok (xm_df 3 (by decide +kernel)) dX2_init_5) e (fun a1 h2 b3 b4 e => ?_)
  refine xw_dup (show xm_Imp g Γ 8 (xi_dup 9) from xs_dup hΓ dX2_init_8) rfl ?_
  obtain ⟨v5, e1, e⟩ := e
  refine xw_pu0 (o := (some a1)) (show xm_Imp g Γ 9 (xi_spe g M_J2_init 4 0 12) from xs_invI hG hΓ k_J2_init rfl q189 q190 rfl dX2_init_9) rfl rfl (fun Q X hQ => K_J2_init hG a1 _ e1 hQ) ?_
  obtain ⟨h6, e1, e⟩ := e
  refine xw_pt1 (o := (some p0)) (show xm_Imp g Γ 12 (xi_put 1 1 (.object "java/util/List") 15) from xs_putF hG hΓ (ci := 1) (kf := 1) rfl (Nat.le_of_ble_eq_true rfl) rfl rfl rfl (by decide +kernel) q277 dX2_init_12) rfl (xv_fit (Or.inl ⟨_, rfl⟩) (some a1)) e1 ?_
  refine xw_ald (show xm_Imp g Γ 15 (xi_ald 0 16) from xs_aload_n hΓ dX2_init_15) rfl ?_
  refine xw_new (show xm_Imp g Γ 16 (xi_new 13 3 [.null, .int 0, .int 0] 19) from xs_new hG hΓ (ci := 13) rfl q213 q214 q125 rfl tyJ3 tyJ3_ok (xm_df 3 (by decide +kernel)) dX2_init_16) e (fun a7 h8 b9 b10 e => ?_)
  refine xw_dup (show xm_Imp g Γ 19 (xi_dup 20) from xs_dup hΓ dX2_init_19) rfl ?_
  obtain ⟨m11, m12, ⟨em1, em2⟩, e⟩ := e
  refine xw_tpu0 (o := (some a7)) (show xm_Imp g Γ 20 (xi_spe g M_J3_init 3 0 23) from xs_invI hG hΓ k_J3_init rfl q215 q216 rfl dX2_init_20) rfl rfl em1 em2 (K_J3_init hG a7 _ _ _ e) (fun h13 e => ?_)
  obtain ⟨h15, e1, e⟩ := e
  refine xw_pt1 (o := (some p0)) (show xm_Imp g Γ 23 (xi_put 1 2 (.object "java/util/ArrayDeque") 26) from xs_putF hG hΓ (ci := 1) (kf := 2) rfl (Nat.le_of_ble_eq_true rfl) rfl rfl rfl (by decide +kernel) q279 dX2_init_23) rfl (xv_fit (Or.inl ⟨_, rfl⟩) (some a7)) e1 ?_
  refine xw_ald (show xm_Imp g Γ 26 (xi_ald 0 27) from xs_aload_n hΓ dX2_init_26) rfl ?_
  refine xw_psh (v := (.int (60))) (show xm_Imp g Γ 27 (xi_psh (.int (60)) 29) from xs_bipush hΓ dX2_init_27 (by decide)) ?_
  obtain ⟨N20, e1, e⟩ := e
  refine xw_neai (show xm_Imp g Γ 29 (xi_nea .int xm_zi 31) from xs_newa (at0 := .int) hG hΓ rfl (by decide) (by decide) xm_zi xm_zi_int q267 dX2_init_29) e1 e (fun a16 h17 b18 b19 e => ?_)
  obtain ⟨h21, e1, e⟩ := e
  refine xw_pt1 (o := (some p0)) (show xm_Imp g Γ 31 (xi_put 1 3 (.array (.int)) 34) from xs_putF hG hΓ (ci := 1) (kf := 3) rfl (Nat.le_of_ble_eq_true rfl) rfl rfl rfl (by decide +kernel) q281 dX2_init_31) rfl (xv_fit (Or.inr ⟨_, rfl⟩) (some a16)) e1 ?_
  refine xw_ald (show xm_Imp g Γ 34 (xi_ald 0 35) from xs_aload_n hΓ dX2_init_34) rfl ?_
  refine xw_new (show xm_Imp g Γ 35 (xi_new 2 1 [.null] 38) from xs_new hG hΓ (ci := 2) rfl q233 q234 q126 rfl tyX3 tyX3_ok (xm_df 1 (by decide +kernel)) dX2_init_35) e (fun a22 h23 b24 b25 e => ?_)
  refine xw_dup (show xm_Imp g Γ 38 (xi_dup 39) from xs_dup hΓ dX2_init_38) rfl ?_
  refine xw_ild (show xm_Imp g Γ 39 (xi_ild 1 40) from xs_iload_n hΓ dX2_init_39) rfl ?_
  obtain ⟨m26, m27, ⟨em1, em2⟩, e⟩ := e
  refine xw_tpu1 (o := (some a22)) (show xm_Imp g Γ 40 (xi_spe g M_X3_init 3 1 43) from xs_invI hG hΓ k_X3_init rfl q235 q236 rfl dX2_init_40) rfl rfl em1 em2 (K_X3_init hG a22 p1 _ _ _ e) (fun h28 e => ?_)
  obtain ⟨h30, e1, e⟩ := e
  refine xw_pt1 (o := (some p0)) (show xm_Imp g Γ 43 (xi_put 1 0 (.object "StringTableau$Tableau") 46) from xs_put hG hΓ (ci := 1) (kf := 0) rfl (Nat.le_of_ble_eq_true rfl) rfl (by decide +kernel) q275 dX2_init_43) rfl (xv_fit (Or.inl ⟨_, rfl⟩) (some a22)) e1 ?_
  refine xw_ald (show xm_Imp g Γ 46 (xi_ald 0 47) from xs_aload_n hΓ dX2_init_46) rfl ?_
  refine xw_ild (show xm_Imp g Γ 47 (xi_ild 2 48) from xs_iload_n hΓ dX2_init_47) rfl ?_
  obtain ⟨h31, e1, e⟩ := e
  refine xw_pt1 (o := (some p0)) (show xm_Imp g Γ 48 (xi_put 1 4 (.int) 51) from xs_put hG hΓ (ci := 1) (kf := 4) rfl (Nat.le_of_ble_eq_true rfl) rfl (by decide +kernel) q284 dX2_init_48) rfl (xf_int _) e1 ?_
  exact xw_vret (show xm_Imp g Γ 51 (xi_vret _) from xs_return hΓ rfl dX2_init_51) ⟨rfl, e⟩
def F_J17_bitCount (p0 : Int32) : Int32 :=
 xo_l (((((p0 - ((ja_ushr p0 1) &&& 1431655765)) &&& 858993459) + ((ja_ushr (p0 - ((ja_ushr p0 1) &&& 1431655765)) 2) &&& 858993459)) + (ja_ushr (((p0 - ((ja_ushr p0 1) &&& 1431655765)) &&& 858993459) + ((ja_ushr (p0 - ((ja_ushr p0 1) &&& 1431655765)) 2) &&& 858993459)) 4)) &&& 252645135) (fun w1 =>
 ((w1 + (ja_ushr w1 8)) + (ja_ushr (w1 + (ja_ushr w1 8)) 16)) &&& 63)
set_option maxHeartbeats 4000000 in
theorem K_J17_bitCount {g : xm_G} (hG : xm_Gw g) {h : xm_H} (p0 : Int32) {o : Int32} (e : F_J17_bitCount p0 = o) {Q : xm_P} {X : xm_X} (hQ : Q (some (.int o)) h) : xm_Run g M_J17_bitCount 1 [.int p0] h 0 0 Q X := by
  refine xm_Run.of pn_java_lang_Integer (Nat.le_of_ble_eq_true rfl) (fun Γ hΓ => ?_)
  obtain ⟨P0, hP0, hp⟩ : ∃ P : Int32 → Prop, (∀ o, P o → Q (some (.int o)) h) ∧ P o := ⟨fun o => Q (some (.int o)) h, fun _ h => h, hQ⟩
  clear hQ
  show xm_W g Γ 0 [some (.int p0)] [] h 0 0
  unfold F_J17_bitCount at e
  refine xw_ild (show xm_Imp g Γ 0 (xi_ild 0 1) from xs_iload_n hΓ dJ17_bitCount_0) rfl ?_
  refine xw_ild (show xm_Imp g Γ 1 (xi_ild 0 2) from xs_iload_n hΓ dJ17_bitCount_1) rfl ?_
  refine xw_psh (v := (.int (1))) (show xm_Imp g Γ 2 (xi_psh (.int (1)) 3) from xs_iconst hΓ dJ17_bitCount_2 (by decide)) ?_
  refine xw_ii (show xm_Imp g Γ 3 (xi_ii (fun x y => (x.toUInt32 >>> (y.toUInt32 &&& Int32.toUInt32 31)).toInt32) 4) from xs_iushr hΓ dJ17_bitCount_3) ?_
  refine xw_psh (v := (.int (1431655765))) (show xm_Imp g Γ 4 (xi_psh (.int (1431655765)) 7) from xs_ldcw hG hΓ q1212 dJ17_bitCount_4) ?_
  refine xw_ii (show xm_Imp g Γ 7 (xi_ii (fun x y => x &&& y) 8) from xs_iand hΓ dJ17_bitCount_7) ?_
  refine xw_ii (show xm_Imp g Γ 8 (xi_ii (fun x y => x - y) 9) from xs_isub hΓ dJ17_bitCount_8) ?_
  refine xw_ist (ls' := [some (.int (p0 - ((ja_ushr p0 1) &&& 1431655765)))]) (show xm_Imp g Γ 9 (xi_ist 0 10) from xs_istore_n hΓ dJ17_bitCount_9 (Nat.le_of_ble_eq_true rfl)) rfl ?_
  refine xw_ild (show xm_Imp g Γ 10 (xi_ild 0 11) from xs_iload_n hΓ dJ17_bitCount_10) rfl ?_
  refine xw_psh (v := (.int (858993459))) (show xm_Imp g Γ 11 (xi_psh (.int (858993459)) 14) from xs_ldcw hG hΓ q1213 dJ17_bitCount_11) ?_
  refine xw_ii (show xm_Imp g Γ 14 (xi_ii (fun x y => x &&& y) 15) from xs_iand hΓ dJ17_bitCount_14) ?_
  refine xw_ild (show xm_Imp g Γ 15 (xi_ild 0 16) from xs_iload_n hΓ dJ17_bitCount_15) rfl ?_
  refine xw_psh (v := (.int (2))) (show xm_Imp g Γ 16 (xi_psh (.int (2)) 17) from xs_iconst hΓ dJ17_bitCount_16 (by decide)) ?_
  refine xw_ii (show xm_Imp g Γ 17 (xi_ii (fun x y => (x.toUInt32 >>> (y.toUInt32 &&& Int32.toUInt32 31)).toInt32) 18) from xs_iushr hΓ dJ17_bitCount_17) ?_
  refine xw_psh (v := (.int (858993459))) (show xm_Imp g Γ 18 (xi_psh (.int (858993459)) 21) from xs_ldcw hG hΓ q1213 dJ17_bitCount_18) ?_
  refine xw_ii (show xm_Imp g Γ 21 (xi_ii (fun x y => x &&& y) 22) from xs_iand hΓ dJ17_bitCount_21) ?_
  refine xw_ii (show xm_Imp g Γ 22 (xi_ii (fun x y => x + y) 23) from xs_iadd hΓ dJ17_bitCount_22) ?_
  refine xw_ist (ls' := [some (.int (((p0 - ((ja_ushr p0 1) &&& 1431655765)) &&& 858993459) + ((ja_ushr (p0 - ((ja_ushr p0 1) &&& 1431655765)) 2) &&& 858993459)))]) (show xm_Imp g Γ 23 (xi_ist 0 24) from xs_istore_n hΓ dJ17_bitCount_23 (Nat.le_of_ble_eq_true rfl)) rfl ?_
  refine xw_ild (show xm_Imp g Γ 24 (xi_ild 0 25) from xs_iload_n hΓ dJ17_bitCount_24) rfl ?_
  refine xw_ild (show xm_Imp g Γ 25 (xi_ild 0 26) from xs_iload_n hΓ dJ17_bitCount_25) rfl ?_
  refine xw_psh (v := (.int (4))) (show xm_Imp g Γ 26 (xi_psh (.int (4)) 27) from xs_iconst hΓ dJ17_bitCount_26 (by decide)) ?_
  refine xw_ii (show xm_Imp g Γ 27 (xi_ii (fun x y => (x.toUInt32 >>> (y.toUInt32 &&& Int32.toUInt32 31)).toInt32) 28) from xs_iushr hΓ dJ17_bitCount_27) ?_
  refine xw_ii (show xm_Imp g Γ 28 (xi_ii (fun x y => x + y) 29) from xs_iadd hΓ dJ17_bitCount_28) ?_
  refine xw_psh (v := (.int (252645135))) (show xm_Imp g Γ 29 (xi_psh (.int (252645135)) 32) from xs_ldcw hG hΓ q1214 dJ17_bitCount_29) ?_
  refine xw_ii (show xm_Imp g Γ 32 (xi_ii (fun x y => x &&& y) 33) from xs_iand hΓ dJ17_bitCount_32) ?_
  obtain ⟨w1, hww1, e⟩ := xo_l_s e
  refine xw_ist (ls' := [some (.int w1)]) (show xm_Imp g Γ 33 (xi_ist 0 34) from xs_istore_n hΓ dJ17_bitCount_33 (Nat.le_of_ble_eq_true rfl)) (by rw [hww1]; rfl) ?_
  refine xw_ild (show xm_Imp g Γ 34 (xi_ild 0 35) from xs_iload_n hΓ dJ17_bitCount_34) rfl ?_
  refine xw_ild (show xm_Imp g Γ 35 (xi_ild 0 36) from xs_iload_n hΓ dJ17_bitCount_35) rfl ?_
  refine xw_psh (v := (.int (8))) (show xm_Imp g Γ 36 (xi_psh (.int (8)) 38) from xs_bipush hΓ dJ17_bitCount_36 (by decide)) ?_
  refine xw_ii (show xm_Imp g Γ 38 (xi_ii (fun x y => (x.toUInt32 >>> (y.toUInt32 &&& Int32.toUInt32 31)).toInt32) 39) from xs_iushr hΓ dJ17_bitCount_38) ?_
  refine xw_ii (show xm_Imp g Γ 39 (xi_ii (fun x y => x + y) 40) from xs_iadd hΓ dJ17_bitCount_39) ?_
  refine xw_ist (ls' := [some (.int (w1 + (ja_ushr w1 8)))]) (show xm_Imp g Γ 40 (xi_ist 0 41) from xs_istore_n hΓ dJ17_bitCount_40 (Nat.le_of_ble_eq_true rfl)) rfl ?_
  refine xw_ild (show xm_Imp g Γ 41 (xi_ild 0 42) from xs_iload_n hΓ dJ17_bitCount_41) rfl ?_
  refine xw_ild (show xm_Imp g Γ 42 (xi_ild 0 43) from xs_iload_n hΓ dJ17_bitCount_42) rfl ?_
  refine xw_psh (v := (.int (16))) (show xm_Imp g Γ 43 (xi_psh (.int (16)) 45) from xs_bipush hΓ dJ17_bitCount_43 (by decide)) ?_
  refine xw_ii (show xm_Imp g Γ 45 (xi_ii (fun x y => (x.toUInt32 >>> (y.toUInt32 &&& Int32.toUInt32 31)).toInt32) 46) from xs_iushr hΓ dJ17_bitCount_45) ?_
  refine xw_ii (show xm_Imp g Γ 46 (xi_ii (fun x y => x + y) 47) from xs_iadd hΓ dJ17_bitCount_46) ?_
  refine xw_ist (ls' := [some (.int ((w1 + (ja_ushr w1 8)) + (ja_ushr (w1 + (ja_ushr w1 8)) 16)))]) (show xm_Imp g Γ 47 (xi_ist 0 48) from xs_istore_n hΓ dJ17_bitCount_47 (Nat.le_of_ble_eq_true rfl)) rfl ?_
  refine xw_ild (show xm_Imp g Γ 48 (xi_ild 0 49) from xs_iload_n hΓ dJ17_bitCount_48) rfl ?_
  refine xw_psh (v := (.int (63))) (show xm_Imp g Γ 49 (xi_psh (.int (63)) 51) from xs_bipush hΓ dJ17_bitCount_49 (by decide)) ?_
  refine xw_ii (show xm_Imp g Γ 51 (xi_ii (fun x y => x &&& y) 52) from xs_iand hΓ dJ17_bitCount_51) ?_
  exact xw_iret (show xm_Imp g Γ 52 (xi_iret .int _) from xs_ireturn hΓ rfl dJ17_bitCount_52) (xn_int _) (hP0 _ (xl_finV e hp))
def F_X1_doCommute (p0 : Int32) (p1 : Int32) (p2 : Int32) (p3 : Int32) : Int32 :=
 (if (((F_J17_bitCount (p0 &&& p3)) + (F_J17_bitCount (p1 &&& p2))) - ((F_J17_bitCount (p0 &&& p3)) + (F_J17_bitCount (p1 &&& p2))) / 2 * 2) = 0 then
 1 else
 0)
set_option maxHeartbeats 4000000 in
theorem K_X1_doCommute {g : xm_G} (hG : xm_Gw g) {h : xm_H} (p0 : Int32) (p1 : Int32) (p2 : Int32) (p3 : Int32) {o : Int32} (e : F_X1_doCommute p0 p1 p2 p3 = o) {Q : xm_P} {X : xm_X} (hQ : Q (some (.int o)) h) : xm_Run g M_X1_doCommute 2 [.int p0, .int p1, .int p2, .int p3] h 0 0 Q X := by
  refine xm_Run.of pn_StringTableau (Nat.le_of_ble_eq_true rfl) (fun Γ hΓ => ?_)
  obtain ⟨P0, hP0, hp⟩ : ∃ P : Int32 → Prop, (∀ o, P o → Q (some (.int o)) h) ∧ P o := ⟨fun o => Q (some (.int o)) h, fun _ h => h, hQ⟩
  clear hQ
  show xm_W g Γ 0 [some (.int p0), some (.int p1), some (.int p2), some (.int p3)] [] h 0 0
  unfold F_X1_doCommute at e
  refine xw_ild (show xm_Imp g Γ 0 (xi_ild 0 1) from xs_iload_n hΓ dX1_doCommute_0) rfl ?_
  refine xw_ild (show xm_Imp g Γ 1 (xi_ild 3 2) from xs_iload_n hΓ dX1_doCommute_1) rfl ?_
  refine xw_ii (show xm_Imp g Γ 2 (xi_ii (fun x y => x &&& y) 3) from xs_iand hΓ dX1_doCommute_2) ?_
  refine xw_sv1 (show xm_Imp g Γ 3 (xi_inv g M_J17_bitCount 1 1 6) from xs_invS hG hΓ k_J17_bitCount rfl q1209 q1210 dX1_doCommute_3) rfl (fun Q X hQ => K_J17_bitCount hG (p0 &&& p3) rfl hQ) ?_
  refine xw_ild (show xm_Imp g Γ 6 (xi_ild 1 7) from xs_iload_n hΓ dX1_doCommute_6) rfl ?_
  refine xw_ild (show xm_Imp g Γ 7 (xi_ild 2 8) from xs_iload_n hΓ dX1_doCommute_7) rfl ?_
  refine xw_ii (show xm_Imp g Γ 8 (xi_ii (fun x y => x &&& y) 9) from xs_iand hΓ dX1_doCommute_8) ?_
  refine xw_sv1 (show xm_Imp g Γ 9 (xi_inv g M_J17_bitCount 1 1 12) from xs_invS hG hΓ k_J17_bitCount rfl q1209 q1210 dX1_doCommute_9) rfl (fun Q X hQ => K_J17_bitCount hG (p1 &&& p2) rfl hQ) ?_
  refine xw_ii (show xm_Imp g Γ 12 (xi_ii (fun x y => x + y) 13) from xs_iadd hΓ dX1_doCommute_12) ?_
  refine xw_psh (v := (.int (2))) (show xm_Imp g Γ 13 (xi_psh (.int (2)) 14) from xs_iconst hΓ dX1_doCommute_13 (by decide)) ?_
  refine xw_id (show xm_Imp g Γ 14 (xi_id (fun x y => x - x / y * y) 15) from xs_irem hΓ dX1_doCommute_14) (by decide) ?_
  refine xw_if (show xm_Imp g Γ 15 (xi_if (fun x => x = 0) 18 22) from xs_if_ne hΓ dX1_doCommute_15 (by decide)) (fun c => ?_) (fun c => ?_)
  · rw [if_pos c] at e
    refine xw_psh (v := (.int (1))) (show xm_Imp g Γ 18 (xi_psh (.int (1)) 19) from xs_iconst hΓ dX1_doCommute_18 (by decide)) ?_
    refine xw_goto (show xm_Imp g Γ 19 (xi_goto 23) from xs_goto hΓ dX1_doCommute_19 (by decide)) ?_
    exact xw_iret (show xm_Imp g Γ 23 (xi_iret .boolean _) from xs_ireturn hΓ rfl dX1_doCommute_23) rfl (hP0 _ (xl_finV e hp))
  · rw [if_neg c] at e
    refine xw_psh (v := (.int (0))) (show xm_Imp g Γ 22 (xi_psh (.int (0)) 23) from xs_iconst hΓ dX1_doCommute_22 (by decide)) ?_
    exact xw_iret (show xm_Imp g Γ 23 (xi_iret .boolean _) from xs_ireturn hΓ rfl dX1_doCommute_23) rfl (hP0 _ (xl_finV e hp))
theorem b_X1_doCommute (p0 : Int32) (p1 : Int32) (p2 : Int32) (p3 : Int32) : narrow .boolean (.int (F_X1_doCommute p0 p1 p2 p3)) = .int (F_X1_doCommute p0 p1 p2 p3) := by
  unfold F_X1_doCommute
  (repeat' split) <;> first | with_reducible exact xb_n0 | with_reducible exact xb_n1
noncomputable def F_X4_commutes (g : xm_G) (p0 : Nat) (p1 : Int32) (p2 : Int32) (h : xm_H) : Option (Int32) :=
 xo_b (xh_fi [(3, 0)] h p0) (fun v1 =>
 xo_b (xh_fi [(3, 1)] h p0) (fun v2 =>
 some (F_X1_doCommute v1 v2 p1 p2)))
set_option maxHeartbeats 4000000 in
theorem K_X4_commutes {g : xm_G} (hG : xm_Gw g) (p0 : Nat) (p1 : Int32) (p2 : Int32) (h : xm_H) {o : Int32} (e : F_X4_commutes g p0 p1 p2 h = some o) {Q : xm_P} {X : xm_X} (hQ : Q (some (.int o)) h) : xm_Run g M_X4_commutes 3 [.ref p0, .int p1, .int p2] h 0 0 Q X := by
  refine xm_Run.of pn_StringTableau_Row (Nat.le_of_ble_eq_true rfl) (fun Γ hΓ => ?_)
  obtain ⟨P0, hP0, hp⟩ : ∃ P : Int32 → Prop, (∀ o, P o → Q (some (.int o)) h) ∧ P o := ⟨fun o => Q (some (.int o)) h, fun _ h => h, hQ⟩
  clear hQ
  show xm_W g Γ 0 [some (.ref p0), some (.int p1), some (.int p2)] [] h 0 0
  unfold F_X4_commutes at e
  refine xw_ald (show xm_Imp g Γ 0 (xi_ald 0 1) from xs_aload_n hΓ dX4_commutes_0) rfl ?_
  obtain ⟨v1, e1, e⟩ := xo_b_s e
  refine xw_gi1 (o := (some p0)) (show xm_Imp g Γ 1 (xi_get 3 0 4) from xs_get hG hΓ (ci := 3) (kf := 0) rfl (Nat.le_of_ble_eq_true rfl) q246 dX4_commutes_1) rfl e1 ?_
  refine xw_ald (show xm_Imp g Γ 4 (xi_ald 0 5) from xs_aload_n hΓ dX4_commutes_4) rfl ?_
  obtain ⟨v2, e1, e⟩ := xo_b_s e
  refine xw_gi1 (o := (some p0)) (show xm_Imp g Γ 5 (xi_get 3 1 8) from xs_get hG hΓ (ci := 3) (kf := 1) rfl (Nat.le_of_ble_eq_true rfl) q251 dX4_commutes_5) rfl e1 ?_
  refine xw_ild (show xm_Imp g Γ 8 (xi_ild 1 9) from xs_iload_n hΓ dX4_commutes_8) rfl ?_
  refine xw_ild (show xm_Imp g Γ 9 (xi_ild 2 10) from xs_iload_n hΓ dX4_commutes_9) rfl ?_
  refine xw_sv4 (show xm_Imp g Γ 10 (xi_inv g M_X1_doCommute 2 4 13) from xs_invSN hG hΓ k_X1_doCommute rfl q1206 q1207 dX4_commutes_10) rfl (fun Q X hQ => K_X1_doCommute hG v1 v2 p1 p2 rfl hQ) ?_
  have hq := hP0 _ (xl_fin e hp)
  exact xw_iret (show xm_Imp g Γ 13 (xi_iret .boolean _) from xs_ireturn hΓ rfl dX4_commutes_13) (b_X1_doCommute v1 v2 p1 p2) hq
noncomputable def B_X3_against_37 (g : xm_G) (l0 : Nat) (l1 : Int32) (l2 : Int32) (l3 : Int32) (l4 : Int32) (h : xm_H) : Option ((Int32 × Int32) ⊕ (Int32)) :=
 some (Sum.inl (l3, (l4 + 1)))
noncomputable def D_X3_against_5 (g : xm_G) (l0 : Nat) (l1 : Int32) (l2 : Int32) (h : xm_H) (s : Int32 × Int32) : Option ((Int32 × Int32) ⊕ (Int32)) :=
 xo_b (xh_fr [(2, 0)] h l0) (fun v1 =>
 xo_b v1 (fun a2 =>
 xo_b (xh_len h a2) (fun v3 =>
 (if v3 ≤ s.2 then
 xl_o (some s.1) else
 xo_b (xh_fr [(2, 0)] h l0) (fun v4 =>
 xo_b v4 (fun a5 =>
 xo_b (xh_ar "StringTableau$Row" h a5 s.2) (fun v6 =>
 xo_b v6 (fun a7 =>
 xo_b (xh_is 3 h a7) (fun _ =>
 xo_b (F_X4_commutes g a7 l1 l2 h) (fun v8 =>
 B_X3_against_37 g l0 l1 l2 (if v8 = 0 then s.1 ||| (1 <<< (s.2 &&& 31)) else s.1) s.2 h))))))))))
noncomputable def L_X3_against_5 (g : xm_G) (l0 : Nat) (l1 : Int32) (l2 : Int32) (h : xm_H) (s : Int32 × Int32) : Option (Int32) := xl_loop (D_X3_against_5 g l0 l1 l2 h) s
noncomputable def F_X3_against (g : xm_G) (p0 : Nat) (p1 : Int32) (p2 : Int32) (h : xm_H) : Option (Int32) :=
 L_X3_against_5 g p0 p1 p2 h (0, 0)
set_option maxHeartbeats 4000000 in
theorem K_X3_against {g : xm_G} (hG : xm_Gw g) (p0 : Nat) (p1 : Int32) (p2 : Int32) (h : xm_H) {o : Int32} (e : F_X3_against g p0 p1 p2 h = some o) {Q : xm_P} {X : xm_X} (hQ : Q (some (.int o)) h) : xm_Run g M_X3_against 4 [.ref p0, .int p1, .int p2] h 0 0 Q X := by
  refine xm_Run.of pn_StringTableau_Tableau (Nat.le_of_ble_eq_true rfl) (fun Γ hΓ => ?_)
  obtain ⟨P0, hP0, hp⟩ : ∃ P : Int32 → Prop, (∀ o, P o → Q (some (.int o)) h) ∧ P o := ⟨fun o => Q (some (.int o)) h, fun _ h => h, hQ⟩
  clear hQ
  show xm_W g Γ 0 [some (.ref p0), some (.int p1), some (.int p2), none, none] [] h 0 0
  have hL_5 : ∀ (l0 : Nat) (l1 : Int32) (l2 : Int32) (s : Int32 × Int32) (o : Int32), L_X3_against_5 g l0 l1 l2 h s = some o → P0 o → xm_W g Γ 5 [some (.ref l0), some (.int l1), some (.int l2), some (.int s.1), some (.int s.2)] [] h 0 0 := by
    intro l0 l1 l2
    refine xl_rule (WS := fun s : Int32 × Int32 => xm_W g Γ 5 [some (.ref l0), some (.int l1), some (.int l2), some (.int s.1), some (.int s.2)] [] h 0 0) ?_
    intro s o e hp
    obtain ⟨P1, hP1, hp⟩ : ∃ P : (Int32 × Int32) ⊕ (Int32) → Prop, (∀ o, P o → xl_P (fun s : Int32 × Int32 => xm_W g Γ 5 [some (.ref l0), some (.int l1), some (.int l2), some (.int s.1), some (.int s.2)] [] h 0 0) P0 o) ∧ P o := ⟨_, fun _ h => h, hp⟩
    have hB_37 : ∀ (l3 : Int32) (l4 : Int32) (o : (Int32 × Int32) ⊕ (Int32)), B_X3_against_37 g l0 l1 l2 l3 l4 h = some o → P1 o → xm_W g Γ 37 [some (.ref l0), some (.int l1), some (.int l2), some (.int l3), some (.int l4)] [] h 0 0 := by
      intro l3 l4 o e hp
      unfold B_X3_against_37 at e
      refine xw_inc (v := (1)) (ls' := [some (.ref l0), some (.int l1), some (.int l2), some (.int l3), some (.int (l4 + 1))]) (show xm_Imp g Γ 37 (xi_inc 4 (1) 40) from xs_iinc hΓ dX3_against_37 (by decide) (Nat.le_of_ble_eq_true rfl)) rfl rfl ?_
      refine xw_goto (show xm_Imp g Γ 40 (xi_goto 5) from xs_goto hΓ dX3_against_40 (by decide)) ?_
      have hq := xl_P_inl (hP1 _ (xl_fin e hp)); exact hq
    unfold D_X3_against_5 at e
    refine xw_ild (show xm_Imp g Γ 5 (xi_ild 4 7) from xs_iload hΓ dX3_against_5) rfl ?_
    refine xw_ald (show xm_Imp g Γ 7 (xi_ald 0 8) from xs_aload_n hΓ dX3_against_7) rfl ?_
    obtain ⟨v1, e1, e⟩ := xo_b_s e
    refine xw_gr1 (o := (some l0)) (show xm_Imp g Γ 8 (xi_get 2 0 11) from xs_get hG hΓ (ci := 2) (kf := 0) rfl (Nat.le_of_ble_eq_true rfl) q268 dX3_against_8) rfl e1 ?_
    obtain ⟨a2, ha2, e⟩ := xo_b_s e
    obtain ⟨v3, e1, e⟩ := xo_b_s e
    refine xw_hlen (o := v1) (show xm_Imp g Γ 11 (xi_len 12) from xs_len hG hΓ dX3_against_11) ha2 e1 ?_
    refine xw_ic (show xm_Imp g Γ 12 (xi_ic (fun x y => y ≤ x) 43 15) from xs_icmp_ge hΓ dX3_against_12 (by decide)) (fun c => ?_) (fun c => ?_)
    · rw [if_pos c] at e
      obtain ⟨_, e, hp⟩ := xl_o_s e (hP1 _ hp)
      refine xw_ild (show xm_Imp g Γ 43 (xi_ild 3 44) from xs_iload_n hΓ dX3_against_43) rfl ?_
      have hq := hP0 _ (xl_fin e hp)
      exact xw_iret (show xm_Imp g Γ 44 (xi_iret .int _) from xs_ireturn hΓ rfl dX3_against_44) (xn_int _) hq
    · rw [if_neg c] at e
      refine xw_ald (show xm_Imp g Γ 15 (xi_ald 0 16) from xs_aload_n hΓ dX3_against_15) rfl ?_
      obtain ⟨v4, e1, e⟩ := xo_b_s e
      refine xw_gr1 (o := (some l0)) (show xm_Imp g Γ 16 (xi_get 2 0 19) from xs_get hG hΓ (ci := 2) (kf := 0) rfl (Nat.le_of_ble_eq_true rfl) q268 dX3_against_16) rfl e1 ?_
      refine xw_ild (show xm_Imp g Γ 19 (xi_ild 4 21) from xs_iload hΓ dX3_against_19) rfl ?_
      obtain ⟨a5, ha5, e⟩ := xo_b_s e
      obtain ⟨v6, e1, e⟩ := xo_b_s e
      refine xw_haal (o := v4) (show xm_Imp g Γ 21 (xi_aal "StringTableau$Row" 22) from xs_aal hG hΓ dX3_against_21) ha5 e1 ?_
      refine xw_ild (show xm_Imp g Γ 22 (xi_ild 1 23) from xs_iload_n hΓ dX3_against_22) rfl ?_
      refine xw_ild (show xm_Imp g Γ 23 (xi_ild 2 24) from xs_iload_n hΓ dX3_against_23) rfl ?_
      obtain ⟨a7, ha7, e⟩ := xo_b_s e
      obtain ⟨_, e0, e⟩ := xo_b_s e
      obtain ⟨v8, e1, e⟩ := xo_b_s e
      refine xw_hv2 (o := v6) (show xm_Imp g Γ 24 (xi_vir g 3 M_X4_commutes 3 2 27) from xs_invV hG hΓ k_X4_commutes rfl (ci := 3) rfl q1202 q1203 q1204 dX3_against_24) (by simp [xm_stk, xv_cat, xc_int, xc_long, xc_float, xc_double, xc_ref]) ha7 e0 (fun Q X hQ => K_X4_commutes hG a7 l1 l2 _ e1 hQ) ?_
      refine xw_if (show xm_Imp g Γ 27 (xi_if (fun x => x = 0) 30 37) from xs_if_ne hΓ dX3_against_27 (by decide)) (fun c => ?_) (fun c => ?_)
      · rw [if_pos c] at e
        refine xw_ild (show xm_Imp g Γ 30 (xi_ild 3 31) from xs_iload_n hΓ dX3_against_30) rfl ?_
        refine xw_psh (v := (.int (1))) (show xm_Imp g Γ 31 (xi_psh (.int (1)) 32) from xs_iconst hΓ dX3_against_31 (by decide)) ?_
        refine xw_ild (show xm_Imp g Γ 32 (xi_ild 4 34) from xs_iload hΓ dX3_against_32) rfl ?_
        refine xw_ii (show xm_Imp g Γ 34 (xi_ii (fun x y => x <<< (y &&& 31)) 35) from xs_ishl hΓ dX3_against_34) ?_
        refine xw_ii (show xm_Imp g Γ 35 (xi_ii (fun x y => x ||| y) 36) from xs_ior hΓ dX3_against_35) ?_
        refine xw_ist (ls' := [some (.ref l0), some (.int l1), some (.int l2), some (.int (s.1 ||| (1 <<< (s.2 &&& 31)))), some (.int s.2)]) (show xm_Imp g Γ 36 (xi_ist 3 37) from xs_istore_n hΓ dX3_against_36 (Nat.le_of_ble_eq_true rfl)) rfl ?_
        exact hB_37 _ _ _ e hp
      · rw [if_neg c] at e
        exact hB_37 _ _ _ e hp
  unfold F_X3_against at e
  refine xw_psh (v := (.int (0))) (show xm_Imp g Γ 0 (xi_psh (.int (0)) 1) from xs_iconst hΓ dX3_against_0 (by decide)) ?_
  refine xw_ist (ls' := [some (.ref p0), some (.int p1), some (.int p2), some (.int 0), none]) (show xm_Imp g Γ 1 (xi_ist 3 2) from xs_istore_n hΓ dX3_against_1 (Nat.le_of_ble_eq_true rfl)) rfl ?_
  refine xw_psh (v := (.int (0))) (show xm_Imp g Γ 2 (xi_psh (.int (0)) 3) from xs_iconst hΓ dX3_against_2 (by decide)) ?_
  refine xw_ist (ls' := [some (.ref p0), some (.int p1), some (.int p2), some (.int 0), some (.int 0)]) (show xm_Imp g Γ 3 (xi_ist 4 5) from xs_istore hΓ dX3_against_3 (Nat.le_of_ble_eq_true rfl)) rfl ?_
  exact hL_5 _ _ _ _ _ e hp
noncomputable def B_X3_decompose_92 (g : xm_G) (l0 : Nat) (l1 : Int32) (l2 : Int32) (l3 : Int32) (h : xm_H) : Option ((Int32) ⊕ (Int32)) :=
 some (Sum.inl (l3 + 1))
noncomputable def B_X3_decompose_74 (g : xm_G) (l0 : Nat) (l1 : Int32) (l2 : Int32) (l3 : Int32) (l4 : Int32) (l5 : Int32) (l6 : Int32) (h : xm_H) : Option ((Int32 × Int32 × Int32) ⊕ ((Int32) ⊕ (Int32))) :=
 some (Sum.inl (l4, l5, (l6 + 1)))
noncomputable def D_X3_decompose_22 (g : xm_G) (l0 : Nat) (l1 : Int32) (l2 : Int32) (l3 : Int32) (h : xm_H) (s : Int32 × Int32 × Int32) : Option ((Int32 × Int32 × Int32) ⊕ ((Int32) ⊕ (Int32))) :=
 xo_b (xh_fr [(2, 0)] h l0) (fun v4 =>
 xo_b v4 (fun a5 =>
 xo_b (xh_len h a5) (fun v6 =>
 (if v6 ≤ s.2.2 then
 xl_o ((if s.1 = 0 then
 (if s.2.1 = 0 then
 xl_o (some l3) else
 B_X3_decompose_92 g l0 l1 l2 l3 h) else
 B_X3_decompose_92 g l0 l1 l2 l3 h)) else
 (if (F_X1_has l3 s.2.2) = 0 then
 B_X3_decompose_74 g l0 l1 l2 l3 s.1 s.2.1 s.2.2 h else
 xo_b (xh_fr [(2, 0)] h l0) (fun v7 =>
 xo_b v7 (fun a8 =>
 xo_b (xh_ar "StringTableau$Row" h a8 s.2.2) (fun v9 =>
 xo_b v9 (fun a10 =>
 xo_b (xh_fi [(3, 0)] h a10) (fun v11 =>
 xo_b (xh_fr [(2, 0)] h l0) (fun v12 =>
 xo_b v12 (fun a13 =>
 xo_b (xh_ar "StringTableau$Row" h a13 s.2.2) (fun v14 =>
 xo_b v14 (fun a15 =>
 xo_b (xh_fi [(3, 1)] h a15) (fun v16 =>
 B_X3_decompose_74 g l0 l1 l2 l3 (s.1 ^^^ v11) (s.2.1 ^^^ v16) s.2.2 h)))))))))))))))
noncomputable def L_X3_decompose_22 (g : xm_G) (l0 : Nat) (l1 : Int32) (l2 : Int32) (l3 : Int32) (h : xm_H) (s : Int32 × Int32 × Int32) : Option ((Int32) ⊕ (Int32)) := xl_loop (D_X3_decompose_22 g l0 l1 l2 l3 h) s
noncomputable def D_X3_decompose_2 (g : xm_G) (l0 : Nat) (l1 : Int32) (l2 : Int32) (h : xm_H) (s : Int32) : Option ((Int32) ⊕ (Int32)) :=
 xo_b (xh_fr [(2, 0)] h l0) (fun v1 =>
 xo_b v1 (fun a2 =>
 xo_b (xh_len h a2) (fun v3 =>
 (if (1 <<< (v3 &&& 31)) ≤ s then
 xl_o (some (-1)) else
 L_X3_decompose_22 g l0 l1 l2 s h (l1, l2, 0)))))
noncomputable def L_X3_decompose_2 (g : xm_G) (l0 : Nat) (l1 : Int32) (l2 : Int32) (h : xm_H) (s : Int32) : Option (Int32) := xl_loop (D_X3_decompose_2 g l0 l1 l2 h) s
noncomputable def F_X3_decompose (g : xm_G) (p0 : Nat) (p1 : Int32) (p2 : Int32) (h : xm_H) : Option (Int32) :=
 L_X3_decompose_2 g p0 p1 p2 h 0
set_option maxHeartbeats 4000000 in
theorem K_X3_decompose {g : xm_G} (hG : xm_Gw g) (p0 : Nat) (p1 : Int32) (p2 : Int32) (h : xm_H) {o : Int32} (e : F_X3_decompose g p0 p1 p2 h = some o) {Q : xm_P} {X : xm_X} (hQ : Q (some (.int o)) h) : xm_Run g M_X3_decompose 2 [.ref p0, .int p1, .int p2] h 0 0 Q X := by
  refine xm_Run.of pn_StringTableau_Tableau (Nat.le_of_ble_eq_true rfl) (fun Γ hΓ => ?_)
  obtain ⟨P0, hP0, hp⟩ : ∃ P : Int32 → Prop, (∀ o, P o → Q (some (.int o)) h) ∧ P o := ⟨fun o => Q (some (.int o)) h, fun _ h => h, hQ⟩
  clear hQ
  show xm_W g Γ 0 [some (.ref p0), some (.int p1), some (.int p2), none, none, none, none] [] h 0 0
  have hL_2 : ∀ (l0 : Nat) (l1 : Int32) (l2 : Int32) (s : Int32) (o : Int32), L_X3_decompose_2 g l0 l1 l2 h s = some o → P0 o → xm_W g Γ 2 [some (.ref l0), some (.int l1), some (.int l2), some (.int s), none, none, none] [] h 0 0 := by
    intro l0 l1 l2
    refine xl_rule (WS := fun s : Int32 => xm_W g Γ 2 [some (.ref l0), some (.int l1), some (.int l2), some (.int s), none, none, none] [] h 0 0) ?_
    intro s o e hp
    obtain ⟨P1, hP1, hp⟩ : ∃ P : (Int32) ⊕ (Int32) → Prop, (∀ o, P o → xl_P (fun s : Int32 => xm_W g Γ 2 [some (.ref l0), some (.int l1), some (.int l2), some (.int s), none, none, none] [] h 0 0) P0 o) ∧ P o := ⟨_, fun _ h => h, hp⟩
    have hB_92 : ∀ (l3 : Int32) (o : (Int32) ⊕ (Int32)), B_X3_decompose_92 g l0 l1 l2 l3 h = some o → P1 o → xm_W g Γ 92 [some (.ref l0), some (.int l1), some (.int l2), some (.int l3), none, none, none] [] h 0 0 := by
      intro l3 o e hp
      unfold B_X3_decompose_92 at e
      refine xw_inc (v := (1)) (ls' := [some (.ref l0), some (.int l1), some (.int l2), some (.int (l3 + 1)), none, none, none]) (show xm_Imp g Γ 92 (xi_inc 3 (1) 95) from xs_iinc hΓ dX3_decompose_92 (by decide) (Nat.le_of_ble_eq_true rfl)) rfl rfl ?_
      refine xw_goto (show xm_Imp g Γ 95 (xi_goto 2) from xs_goto hΓ dX3_decompose_95 (by decide)) ?_
      have hq := xl_P_inl (hP1 _ (xl_fin e hp)); exact hq
    have hL_22 : ∀ (l3 : Int32) (s : Int32 × Int32 × Int32) (o : (Int32) ⊕ (Int32)), L_X3_decompose_22 g l0 l1 l2 l3 h s = some o → P1 o → xm_W g Γ 22 [some (.ref l0), some (.int l1), some (.int l2), some (.int l3), some (.int s.1), some (.int s.2.1), some (.int s.2.2)] [] h 0 0 := by
      intro l3
      refine xl_rule (WS := fun s : Int32 × Int32 × Int32 => xm_W g Γ 22 [some (.ref l0), some (.int l1), some (.int l2), some (.int l3), some (.int s.1), some (.int s.2.1), some (.int s.2.2)] [] h 0 0) ?_
      intro s o e hp
      obtain ⟨P2, hP2, hp⟩ : ∃ P : (Int32 × Int32 × Int32) ⊕ ((Int32) ⊕ (Int32)) → Prop, (∀ o, P o → xl_P (fun s : Int32 × Int32 × Int32 => xm_W g Γ 22 [some (.ref l0), some (.int l1), some (.int l2), some (.int l3), some (.int s.1), some (.int s.2.1), some (.int s.2.2)] [] h 0 0) P1 o) ∧ P o := ⟨_, fun _ h => h, hp⟩
      have hB_74 : ∀ (l4 : Int32) (l5 : Int32) (l6 : Int32) (o : (Int32 × Int32 × Int32) ⊕ ((Int32) ⊕ (Int32))), B_X3_decompose_74 g l0 l1 l2 l3 l4 l5 l6 h = some o → P2 o → xm_W g Γ 74 [some (.ref l0), some (.int l1), some (.int l2), some (.int l3), some (.int l4), some (.int l5), some (.int l6)] [] h 0 0 := by
        intro l4 l5 l6 o e hp
        unfold B_X3_decompose_74 at e
        refine xw_inc (v := (1)) (ls' := [some (.ref l0), some (.int l1), some (.int l2), some (.int l3), some (.int l4), some (.int l5), some (.int (l6 + 1))]) (show xm_Imp g Γ 74 (xi_inc 6 (1) 77) from xs_iinc hΓ dX3_decompose_74 (by decide) (Nat.le_of_ble_eq_true rfl)) rfl rfl ?_
        refine xw_goto (show xm_Imp g Γ 77 (xi_goto 22) from xs_goto hΓ dX3_decompose_77 (by decide)) ?_
        have hq := xl_P_inl (hP2 _ (xl_fin e hp)); exact hq
      unfold D_X3_decompose_22 at e
      refine xw_ild (show xm_Imp g Γ 22 (xi_ild 6 24) from xs_iload hΓ dX3_decompose_22) rfl ?_
      refine xw_ald (show xm_Imp g Γ 24 (xi_ald 0 25) from xs_aload_n hΓ dX3_decompose_24) rfl ?_
      obtain ⟨v4, e1, e⟩ := xo_b_s e
      refine xw_gr1 (o := (some l0)) (show xm_Imp g Γ 25 (xi_get 2 0 28) from xs_get hG hΓ (ci := 2) (kf := 0) rfl (Nat.le_of_ble_eq_true rfl) q268 dX3_decompose_25) rfl e1 ?_
      obtain ⟨a5, ha5, e⟩ := xo_b_s e
      obtain ⟨v6, e1, e⟩ := xo_b_s e
      refine xw_hlen (o := v4) (show xm_Imp g Γ 28 (xi_len 29) from xs_len hG hΓ dX3_decompose_28) ha5 e1 ?_
      refine xw_ic (show xm_Imp g Γ 29 (xi_ic (fun x y => y ≤ x) 80 32) from xs_icmp_ge hΓ dX3_decompose_29 (by decide)) (fun c => ?_) (fun c => ?_)
      · rw [if_pos c] at e
        obtain ⟨_, e, hp⟩ := xl_o_s e (hP2 _ hp)
        refine xw_ild (show xm_Imp g Γ 80 (xi_ild 4 82) from xs_iload hΓ dX3_decompose_80) rfl ?_
        refine xw_if (show xm_Imp g Γ 82 (xi_if (fun x => x = 0) 85 92) from xs_if_ne hΓ dX3_decompose_82 (by decide)) (fun c => ?_) (fun c => ?_)
        · rw [if_pos c] at e
          refine xw_ild (show xm_Imp g Γ 85 (xi_ild 5 87) from xs_iload hΓ dX3_decompose_85) rfl ?_
          refine xw_if (show xm_Imp g Γ 87 (xi_if (fun x => x = 0) 90 92) from xs_if_ne hΓ dX3_decompose_87 (by decide)) (fun c => ?_) (fun c => ?_)
          · rw [if_pos c] at e
            obtain ⟨_, e, hp⟩ := xl_o_s e (hP1 _ hp)
            refine xw_ild (show xm_Imp g Γ 90 (xi_ild 3 91) from xs_iload_n hΓ dX3_decompose_90) rfl ?_
            have hq := hP0 _ (xl_fin e hp)
            exact xw_iret (show xm_Imp g Γ 91 (xi_iret .int _) from xs_ireturn hΓ rfl dX3_decompose_91) (xn_int _) hq
          · rw [if_neg c] at e
            exact xm_lx (hB_92 _ _ e hp) (And.intro rfl (And.intro rfl (And.intro rfl (And.intro rfl (trivial)))))
        · rw [if_neg c] at e
          exact xm_lx (hB_92 _ _ e hp) (And.intro rfl (And.intro rfl (And.intro rfl (And.intro rfl (trivial)))))
      · rw [if_neg c] at e
        refine xw_ild (show xm_Imp g Γ 32 (xi_ild 3 33) from xs_iload_n hΓ dX3_decompose_32) rfl ?_
        refine xw_ild (show xm_Imp g Γ 33 (xi_ild 6 35) from xs_iload hΓ dX3_decompose_33) rfl ?_
        refine xw_sv2 (show xm_Imp g Γ 35 (xi_inv g M_X1_has 1 2 38) from xs_invSN hG hΓ k_X1_has rfl q1223 q1224 dX3_decompose_35) rfl (fun Q X hQ => K_X1_has hG l3 s.2.2 rfl hQ) ?_
        refine xw_if (show xm_Imp g Γ 38 (xi_if (fun x => x = 0) 41 44) from xs_if_ne hΓ dX3_decompose_38 (by decide)) (fun c => ?_) (fun c => ?_)
        · rw [if_pos c] at e
          refine xw_goto (show xm_Imp g Γ 41 (xi_goto 74) from xs_goto hΓ dX3_decompose_41 (by decide)) ?_
          exact hB_74 _ _ _ _ e hp
        · rw [if_neg c] at e
          refine xw_ild (show xm_Imp g Γ 44 (xi_ild 4 46) from xs_iload hΓ dX3_decompose_44) rfl ?_
          refine xw_ald (show xm_Imp g Γ 46 (xi_ald 0 47) from xs_aload_n hΓ dX3_decompose_46) rfl ?_
          obtain ⟨v7, e1, e⟩ := xo_b_s e
          refine xw_gr1 (o := (some l0)) (show xm_Imp g Γ 47 (xi_get 2 0 50) from xs_get hG hΓ (ci := 2) (kf := 0) rfl (Nat.le_of_ble_eq_true rfl) q268 dX3_decompose_47) rfl e1 ?_
          refine xw_ild (show xm_Imp g Γ 50 (xi_ild 6 52) from xs_iload hΓ dX3_decompose_50) rfl ?_
          obtain ⟨a8, ha8, e⟩ := xo_b_s e
          obtain ⟨v9, e1, e⟩ := xo_b_s e
          refine xw_haal (o := v7) (show xm_Imp g Γ 52 (xi_aal "StringTableau$Row" 53) from xs_aal hG hΓ dX3_decompose_52) ha8 e1 ?_
          obtain ⟨a10, ha10, e⟩ := xo_b_s e
          obtain ⟨v11, e1, e⟩ := xo_b_s e
          refine xw_gi1 (o := v9) (show xm_Imp g Γ 53 (xi_get 3 0 56) from xs_getN hG hΓ (ci := 3) (kf := 0) rfl (Nat.le_of_ble_eq_true rfl) q249 dX3_decompose_53) ha10 e1 ?_
          refine xw_ii (show xm_Imp g Γ 56 (xi_ii (fun x y => x ^^^ y) 57) from xs_ixor hΓ dX3_decompose_56) ?_
          refine xw_ist (ls' := [some (.ref l0), some (.int l1), some (.int l2), some (.int l3), some (.int (s.1 ^^^ v11)), some (.int s.2.1), some (.int s.2.2)]) (show xm_Imp g Γ 57 (xi_ist 4 59) from xs_istore hΓ dX3_decompose_57 (Nat.le_of_ble_eq_true rfl)) rfl ?_
          refine xw_ild (show xm_Imp g Γ 59 (xi_ild 5 61) from xs_iload hΓ dX3_decompose_59) rfl ?_
          refine xw_ald (show xm_Imp g Γ 61 (xi_ald 0 62) from xs_aload_n hΓ dX3_decompose_61) rfl ?_
          obtain ⟨v12, e1, e⟩ := xo_b_s e
          refine xw_gr1 (o := (some l0)) (show xm_Imp g Γ 62 (xi_get 2 0 65) from xs_get hG hΓ (ci := 2) (kf := 0) rfl (Nat.le_of_ble_eq_true rfl) q268 dX3_decompose_62) rfl e1 ?_
          refine xw_ild (show xm_Imp g Γ 65 (xi_ild 6 67) from xs_iload hΓ dX3_decompose_65) rfl ?_
          obtain ⟨a13, ha13, e⟩ := xo_b_s e
          obtain ⟨v14, e1, e⟩ := xo_b_s e
          refine xw_haal (o := v12) (show xm_Imp g Γ 67 (xi_aal "StringTableau$Row" 68) from xs_aal hG hΓ dX3_decompose_67) ha13 e1 ?_
          obtain ⟨a15, ha15, e⟩ := xo_b_s e
          obtain ⟨v16, e1, e⟩ := xo_b_s e
          refine xw_gi1 (o := v14) (show xm_Imp g Γ 68 (xi_get 3 1 71) from xs_getN hG hΓ (ci := 3) (kf := 1) rfl (Nat.le_of_ble_eq_true rfl) q254 dX3_decompose_68) ha15 e1 ?_
          refine xw_ii (show xm_Imp g Γ 71 (xi_ii (fun x y => x ^^^ y) 72) from xs_ixor hΓ dX3_decompose_71) ?_
          refine xw_ist (ls' := [some (.ref l0), some (.int l1), some (.int l2), some (.int l3), some (.int (s.1 ^^^ v11)), some (.int (s.2.1 ^^^ v16)), some (.int s.2.2)]) (show xm_Imp g Γ 72 (xi_ist 5 74) from xs_istore hΓ dX3_decompose_72 (Nat.le_of_ble_eq_true rfl)) rfl ?_
          exact hB_74 _ _ _ _ e hp
    unfold D_X3_decompose_2 at e
    refine xw_ild (show xm_Imp g Γ 2 (xi_ild 3 3) from xs_iload_n hΓ dX3_decompose_2) rfl ?_
    refine xw_psh (v := (.int (1))) (show xm_Imp g Γ 3 (xi_psh (.int (1)) 4) from xs_iconst hΓ dX3_decompose_3 (by decide)) ?_
    refine xw_ald (show xm_Imp g Γ 4 (xi_ald 0 5) from xs_aload_n hΓ dX3_decompose_4) rfl ?_
    obtain ⟨v1, e1, e⟩ := xo_b_s e
    refine xw_gr1 (o := (some l0)) (show xm_Imp g Γ 5 (xi_get 2 0 8) from xs_get hG hΓ (ci := 2) (kf := 0) rfl (Nat.le_of_ble_eq_true rfl) q268 dX3_decompose_5) rfl e1 ?_
    obtain ⟨a2, ha2, e⟩ := xo_b_s e
    obtain ⟨v3, e1, e⟩ := xo_b_s e
    refine xw_hlen (o := v1) (show xm_Imp g Γ 8 (xi_len 9) from xs_len hG hΓ dX3_decompose_8) ha2 e1 ?_
    refine xw_ii (show xm_Imp g Γ 9 (xi_ii (fun x y => x <<< (y &&& 31)) 10) from xs_ishl hΓ dX3_decompose_9) ?_
    refine xw_ic (show xm_Imp g Γ 10 (xi_ic (fun x y => y ≤ x) 98 13) from xs_icmp_ge hΓ dX3_decompose_10 (by decide)) (fun c => ?_) (fun c => ?_)
    · rw [if_pos c] at e
      obtain ⟨_, e, hp⟩ := xl_o_s e (hP1 _ hp)
      refine xw_psh (v := (.int (-1))) (show xm_Imp g Γ 98 (xi_psh (.int (-1)) 99) from xs_iconst hΓ dX3_decompose_98 (by decide)) ?_
      have hq := hP0 _ (xl_fin e hp)
      exact xw_iret (show xm_Imp g Γ 99 (xi_iret .int _) from xs_ireturn hΓ rfl dX3_decompose_99) (xn_int _) hq
    · rw [if_neg c] at e
      refine xw_ild (show xm_Imp g Γ 13 (xi_ild 1 14) from xs_iload_n hΓ dX3_decompose_13) rfl ?_
      refine xw_ist (ls' := [some (.ref l0), some (.int l1), some (.int l2), some (.int s), some (.int l1), none, none]) (show xm_Imp g Γ 14 (xi_ist 4 16) from xs_istore hΓ dX3_decompose_14 (Nat.le_of_ble_eq_true rfl)) rfl ?_
      refine xw_ild (show xm_Imp g Γ 16 (xi_ild 2 17) from xs_iload_n hΓ dX3_decompose_16) rfl ?_
      refine xw_ist (ls' := [some (.ref l0), some (.int l1), some (.int l2), some (.int s), some (.int l1), some (.int l2), none]) (show xm_Imp g Γ 17 (xi_ist 5 19) from xs_istore hΓ dX3_decompose_17 (Nat.le_of_ble_eq_true rfl)) rfl ?_
      refine xw_psh (v := (.int (0))) (show xm_Imp g Γ 19 (xi_psh (.int (0)) 20) from xs_iconst hΓ dX3_decompose_19 (by decide)) ?_
      refine xw_ist (ls' := [some (.ref l0), some (.int l1), some (.int l2), some (.int s), some (.int l1), some (.int l2), some (.int 0)]) (show xm_Imp g Γ 20 (xi_ist 6 22) from xs_istore hΓ dX3_decompose_20 (Nat.le_of_ble_eq_true rfl)) rfl ?_
      exact hL_22 _ _ _ e hp
  unfold F_X3_decompose at e
  refine xw_psh (v := (.int (0))) (show xm_Imp g Γ 0 (xi_psh (.int (0)) 1) from xs_iconst hΓ dX3_decompose_0 (by decide)) ?_
  refine xw_ist (ls' := [some (.ref p0), some (.int p1), some (.int p2), some (.int 0), none, none, none]) (show xm_Imp g Γ 1 (xi_ist 3 2) from xs_istore_n hΓ dX3_decompose_1 (Nat.le_of_ble_eq_true rfl)) rfl ?_
  exact hL_2 _ _ _ _ _ e hp
def F_X1_letterOf (p0 : Int32) (p1 : Int32) (p2 : Int32) : Int32 :=
 (if (F_X1_has p0 p2) = 0 then
 (if (F_X1_has p1 p2) = 0 then
 0 else
 3) else
 (if (F_X1_has p1 p2) = 0 then
 1 else
 2))
set_option maxHeartbeats 4000000 in
theorem K_X1_letterOf {g : xm_G} (hG : xm_Gw g) {h : xm_H} (p0 : Int32) (p1 : Int32) (p2 : Int32) {o : Int32} (e : F_X1_letterOf p0 p1 p2 = o) {Q : xm_P} {X : xm_X} (hQ : Q (some (.int o)) h) : xm_Run g M_X1_letterOf 2 [.int p0, .int p1, .int p2] h 0 0 Q X := by
  refine xm_Run.of pn_StringTableau (Nat.le_of_ble_eq_true rfl) (fun Γ hΓ => ?_)
  obtain ⟨P0, hP0, hp⟩ : ∃ P : Int32 → Prop, (∀ o, P o → Q (some (.int o)) h) ∧ P o := ⟨fun o => Q (some (.int o)) h, fun _ h => h, hQ⟩
  clear hQ
  show xm_W g Γ 0 [some (.int p0), some (.int p1), some (.int p2)] [] h 0 0
  unfold F_X1_letterOf at e
  refine xw_ild (show xm_Imp g Γ 0 (xi_ild 0 1) from xs_iload_n hΓ dX1_letterOf_0) rfl ?_
  refine xw_ild (show xm_Imp g Γ 1 (xi_ild 2 2) from xs_iload_n hΓ dX1_letterOf_1) rfl ?_
  refine xw_sv2 (show xm_Imp g Γ 2 (xi_inv g M_X1_has 1 2 5) from xs_invS hG hΓ k_X1_has rfl q1240 q1224 dX1_letterOf_2) rfl (fun Q X hQ => K_X1_has hG p0 p2 rfl hQ) ?_
  refine xw_if (show xm_Imp g Γ 5 (xi_if (fun x => x = 0) 24 8) from xs_if_eq hΓ dX1_letterOf_5 (by decide)) (fun c => ?_) (fun c => ?_)
  · rw [if_pos c] at e
    refine xw_ild (show xm_Imp g Γ 24 (xi_ild 1 25) from xs_iload_n hΓ dX1_letterOf_24) rfl ?_
    refine xw_ild (show xm_Imp g Γ 25 (xi_ild 2 26) from xs_iload_n hΓ dX1_letterOf_25) rfl ?_
    refine xw_sv2 (show xm_Imp g Γ 26 (xi_inv g M_X1_has 1 2 29) from xs_invS hG hΓ k_X1_has rfl q1240 q1224 dX1_letterOf_26) rfl (fun Q X hQ => K_X1_has hG p1 p2 rfl hQ) ?_
    refine xw_if (show xm_Imp g Γ 29 (xi_if (fun x => x = 0) 36 32) from xs_if_eq hΓ dX1_letterOf_29 (by decide)) (fun c => ?_) (fun c => ?_)
    · rw [if_pos c] at e
      refine xw_psh (v := (.int (0))) (show xm_Imp g Γ 36 (xi_psh (.int (0)) 37) from xs_iconst hΓ dX1_letterOf_36 (by decide)) ?_
      exact xw_iret (show xm_Imp g Γ 37 (xi_iret .int _) from xs_ireturn hΓ rfl dX1_letterOf_37) (xn_int _) (hP0 _ (xl_finV e hp))
    · rw [if_neg c] at e
      refine xw_psh (v := (.int (3))) (show xm_Imp g Γ 32 (xi_psh (.int (3)) 33) from xs_iconst hΓ dX1_letterOf_32 (by decide)) ?_
      refine xw_goto (show xm_Imp g Γ 33 (xi_goto 37) from xs_goto hΓ dX1_letterOf_33 (by decide)) ?_
      exact xw_iret (show xm_Imp g Γ 37 (xi_iret .int _) from xs_ireturn hΓ rfl dX1_letterOf_37) (xn_int _) (hP0 _ (xl_finV e hp))
  · rw [if_neg c] at e
    refine xw_ild (show xm_Imp g Γ 8 (xi_ild 1 9) from xs_iload_n hΓ dX1_letterOf_8) rfl ?_
    refine xw_ild (show xm_Imp g Γ 9 (xi_ild 2 10) from xs_iload_n hΓ dX1_letterOf_9) rfl ?_
    refine xw_sv2 (show xm_Imp g Γ 10 (xi_inv g M_X1_has 1 2 13) from xs_invS hG hΓ k_X1_has rfl q1240 q1224 dX1_letterOf_10) rfl (fun Q X hQ => K_X1_has hG p1 p2 rfl hQ) ?_
    refine xw_if (show xm_Imp g Γ 13 (xi_if (fun x => x = 0) 20 16) from xs_if_eq hΓ dX1_letterOf_13 (by decide)) (fun c => ?_) (fun c => ?_)
    · rw [if_pos c] at e
      refine xw_psh (v := (.int (1))) (show xm_Imp g Γ 20 (xi_psh (.int (1)) 21) from xs_iconst hΓ dX1_letterOf_20 (by decide)) ?_
      refine xw_goto (show xm_Imp g Γ 21 (xi_goto 37) from xs_goto hΓ dX1_letterOf_21 (by decide)) ?_
      exact xw_iret (show xm_Imp g Γ 37 (xi_iret .int _) from xs_ireturn hΓ rfl dX1_letterOf_37) (xn_int _) (hP0 _ (xl_finV e hp))
    · rw [if_neg c] at e
      refine xw_psh (v := (.int (2))) (show xm_Imp g Γ 16 (xi_psh (.int (2)) 17) from xs_iconst hΓ dX1_letterOf_16 (by decide)) ?_
      refine xw_goto (show xm_Imp g Γ 17 (xi_goto 37) from xs_goto hΓ dX1_letterOf_17 (by decide)) ?_
      exact xw_iret (show xm_Imp g Γ 37 (xi_iret .int _) from xs_ireturn hΓ rfl dX1_letterOf_37) (xn_int _) (hP0 _ (xl_finV e hp))
noncomputable def B_X1_phaseOf_74 (l0 : Int32) (l1 : Int32) (l2 : Int32) (l3 : Int32) (l4 : Int32) (l5 : Int32) : Option ((Int32 × Int32) ⊕ (Int32)) :=
 some (Sum.inl (l4, l5 + 1))
noncomputable def D_X1_phaseOf_6 (l0 : Int32) (l1 : Int32) (l2 : Int32) (l3 : Int32) (s : Int32 × Int32) : Option ((Int32 × Int32) ⊕ (Int32)) :=
 (if 8 ≤ s.2 then
 xl_o (some (s.1 - s.1 / 4 * 4)) else
 B_X1_phaseOf_74 l0 l1 l2 l3 (if (F_X1_letterOf l0 l1 s.2) = 0 then s.1 else (if (F_X1_letterOf l2 l3 s.2) = 0 then s.1 else (if (F_X1_letterOf l0 l1 s.2) = (F_X1_letterOf l2 l3 s.2) then s.1 else (if ((((F_X1_letterOf l2 l3 s.2) - (F_X1_letterOf l0 l1 s.2)) + 3) - (((F_X1_letterOf l2 l3 s.2) - (F_X1_letterOf l0 l1 s.2)) + 3) / 3 * 3) = 1 then s.1 + 1 else s.1 + 3)))) s.2)
noncomputable def L_X1_phaseOf_6 (l0 : Int32) (l1 : Int32) (l2 : Int32) (l3 : Int32) (s : Int32 × Int32) : Option (Int32) := xl_loop (D_X1_phaseOf_6 l0 l1 l2 l3) s
noncomputable def F_X1_phaseOf (p0 : Int32) (p1 : Int32) (p2 : Int32) (p3 : Int32) : Option (Int32) :=
 L_X1_phaseOf_6 p0 p1 p2 p3 (0, 0)
set_option maxHeartbeats 4000000 in
theorem K_X1_phaseOf {g : xm_G} (hG : xm_Gw g) {h : xm_H} (p0 : Int32) (p1 : Int32) (p2 : Int32) (p3 : Int32) {o : Int32} (e : F_X1_phaseOf p0 p1 p2 p3 = some o) {Q : xm_P} {X : xm_X} (hQ : Q (some (.int o)) h) : xm_Run g M_X1_phaseOf 3 [.int p0, .int p1, .int p2, .int p3] h 0 0 Q X := by
  refine xm_Run.of pn_StringTableau (Nat.le_of_ble_eq_true rfl) (fun Γ hΓ => ?_)
  obtain ⟨P0, hP0, hp⟩ : ∃ P : Int32 → Prop, (∀ o, P o → Q (some (.int o)) h) ∧ P o := ⟨fun o => Q (some (.int o)) h, fun _ h => h, hQ⟩
  clear hQ
  show xm_W g Γ 0 [some (.int p0), some (.int p1), some (.int p2), some (.int p3), none, none, none, none] [] h 0 0
  have hL_6 : ∀ (l0 : Int32) (l1 : Int32) (l2 : Int32) (l3 : Int32) (s : Int32 × Int32) (o : Int32), L_X1_phaseOf_6 l0 l1 l2 l3 s = some o → P0 o → xm_W g Γ 6 [some (.int l0), some (.int l1), some (.int l2), some (.int l3), some (.int s.1), some (.int s.2), none, none] [] h 0 0 := by
    intro l0 l1 l2 l3
    refine xl_rule (WS := fun s : Int32 × Int32 => xm_W g Γ 6 [some (.int l0), some (.int l1), some (.int l2), some (.int l3), some (.int s.1), some (.int s.2), none, none] [] h 0 0) ?_
    intro s o e hp
    obtain ⟨P1, hP1, hp⟩ : ∃ P : (Int32 × Int32) ⊕ (Int32) → Prop, (∀ o, P o → xl_P (fun s : Int32 × Int32 => xm_W g Γ 6 [some (.int l0), some (.int l1), some (.int l2), some (.int l3), some (.int s.1), some (.int s.2), none, none] [] h 0 0) P0 o) ∧ P o := ⟨_, fun _ h => h, hp⟩
    have hB_74 : ∀ (l4 : Int32) (l5 : Int32) (o : (Int32 × Int32) ⊕ (Int32)), B_X1_phaseOf_74 l0 l1 l2 l3 l4 l5 = some o → P1 o → xm_W g Γ 74 [some (.int l0), some (.int l1), some (.int l2), some (.int l3), some (.int l4), some (.int l5), none, none] [] h 0 0 := by
      intro l4 l5 o e hp
      unfold B_X1_phaseOf_74 at e
      refine xw_inc (v := (1)) (ls' := [some (.int l0), some (.int l1), some (.int l2), some (.int l3), some (.int l4), some (.int (l5 + 1)), none, none]) (show xm_Imp g Γ 74 (xi_inc 5 (1) 77) from xs_iinc hΓ dX1_phaseOf_74 (by decide) (Nat.le_of_ble_eq_true rfl)) rfl rfl ?_
      refine xw_goto (show xm_Imp g Γ 77 (xi_goto 6) from xs_goto hΓ dX1_phaseOf_77 (by decide)) ?_
      have hq := xl_P_inl (hP1 _ (xl_fin e hp)); exact hq
    unfold D_X1_phaseOf_6 at e
    refine xw_ild (show xm_Imp g Γ 6 (xi_ild 5 8) from xs_iload hΓ dX1_phaseOf_6) rfl ?_
    refine xw_psh (v := (.int (8))) (show xm_Imp g Γ 8 (xi_psh (.int (8)) 10) from xs_bipush hΓ dX1_phaseOf_8 (by decide)) ?_
    refine xw_ic (show xm_Imp g Γ 10 (xi_ic (fun x y => y ≤ x) 80 13) from xs_icmp_ge hΓ dX1_phaseOf_10 (by decide)) (fun c => ?_) (fun c => ?_)
    · rw [if_pos c] at e
      obtain ⟨_, e, hp⟩ := xl_o_s e (hP1 _ hp)
      refine xw_ild (show xm_Imp g Γ 80 (xi_ild 4 82) from xs_iload hΓ dX1_phaseOf_80) rfl ?_
      refine xw_psh (v := (.int (4))) (show xm_Imp g Γ 82 (xi_psh (.int (4)) 83) from xs_iconst hΓ dX1_phaseOf_82 (by decide)) ?_
      refine xw_id (show xm_Imp g Γ 83 (xi_id (fun x y => x - x / y * y) 84) from xs_irem hΓ dX1_phaseOf_83) (by decide) ?_
      exact xw_iret (show xm_Imp g Γ 84 (xi_iret .int _) from xs_ireturn hΓ rfl dX1_phaseOf_84) (xn_int _) (hP0 _ (xl_fin e hp))
    · rw [if_neg c] at e
      refine xw_ild (show xm_Imp g Γ 13 (xi_ild 0 14) from xs_iload_n hΓ dX1_phaseOf_13) rfl ?_
      refine xw_ild (show xm_Imp g Γ 14 (xi_ild 1 15) from xs_iload_n hΓ dX1_phaseOf_14) rfl ?_
      refine xw_ild (show xm_Imp g Γ 15 (xi_ild 5 17) from xs_iload hΓ dX1_phaseOf_15) rfl ?_
      refine xw_sv3 (show xm_Imp g Γ 17 (xi_inv g M_X1_letterOf 2 3 20) from xs_invS hG hΓ k_X1_letterOf rfl q1237 q1238 dX1_phaseOf_17) rfl (fun Q X hQ => K_X1_letterOf hG l0 l1 s.2 rfl hQ) ?_
      refine xw_ist (ls' := [some (.int l0), some (.int l1), some (.int l2), some (.int l3), some (.int s.1), some (.int s.2), some (.int (F_X1_letterOf l0 l1 s.2)), none]) (show xm_Imp g Γ 20 (xi_ist 6 22) from xs_istore hΓ dX1_phaseOf_20 (Nat.le_of_ble_eq_true rfl)) rfl ?_
      refine xw_ild (show xm_Imp g Γ 22 (xi_ild 2 23) from xs_iload_n hΓ dX1_phaseOf_22) rfl ?_
      refine xw_ild (show xm_Imp g Γ 23 (xi_ild 3 24) from xs_iload_n hΓ dX1_phaseOf_23) rfl ?_
      refine xw_ild (show xm_Imp g Γ 24 (xi_ild 5 26) from xs_iload hΓ dX1_phaseOf_24) rfl ?_
      refine xw_sv3 (show xm_Imp g Γ 26 (xi_inv g M_X1_letterOf 2 3 29) from xs_invS hG hΓ k_X1_letterOf rfl q1237 q1238 dX1_phaseOf_26) rfl (fun Q X hQ => K_X1_letterOf hG l2 l3 s.2 rfl hQ) ?_
      refine xw_ist (ls' := [some (.int l0), some (.int l1), some (.int l2), some (.int l3), some (.int s.1), some (.int s.2), some (.int (F_X1_letterOf l0 l1 s.2)), some (.int (F_X1_letterOf l2 l3 s.2))]) (show xm_Imp g Γ 29 (xi_ist 7 31) from xs_istore hΓ dX1_phaseOf_29 (Nat.le_of_ble_eq_true rfl)) rfl ?_
      refine xw_ild (show xm_Imp g Γ 31 (xi_ild 6 33) from xs_iload hΓ dX1_phaseOf_31) rfl ?_
      refine xw_if (show xm_Imp g Γ 33 (xi_if (fun x => x = 0) 74 36) from xs_if_eq hΓ dX1_phaseOf_33 (by decide)) (fun c => ?_) (fun c => ?_)
      · rw [if_pos c] at e
        exact xm_lx (hB_74 _ _ _ e hp) (And.intro rfl (And.intro rfl (And.intro rfl (And.intro rfl (And.intro rfl (And.intro rfl (trivial)))))))
      · rw [if_neg c] at e
        refine xw_ild (show xm_Imp g Γ 36 (xi_ild 7 38) from xs_iload hΓ dX1_phaseOf_36) rfl ?_
        refine xw_if (show xm_Imp g Γ 38 (xi_if (fun x => x = 0) 74 41) from xs_if_eq hΓ dX1_phaseOf_38 (by decide)) (fun c => ?_) (fun c => ?_)
        · rw [if_pos c] at e
          exact xm_lx (hB_74 _ _ _ e hp) (And.intro rfl (And.intro rfl (And.intro rfl (And.intro rfl (And.intro rfl (And.intro rfl (trivial)))))))
        · rw [if_neg c] at e
          refine xw_ild (show xm_Imp g Γ 41 (xi_ild 6 43) from xs_iload hΓ dX1_phaseOf_41) rfl ?_
          refine xw_ild (show xm_Imp g Γ 43 (xi_ild 7 45) from xs_iload hΓ dX1_phaseOf_43) rfl ?_
          refine xw_ic (show xm_Imp g Γ 45 (xi_ic (fun x y => x = y) 48 51) from xs_icmp_ne hΓ dX1_phaseOf_45 (by decide)) (fun c => ?_) (fun c => ?_)
          · rw [if_pos c] at e
            refine xw_goto (show xm_Imp g Γ 48 (xi_goto 74) from xs_goto hΓ dX1_phaseOf_48 (by decide)) ?_
            exact xm_lx (hB_74 _ _ _ e hp) (And.intro rfl (And.intro rfl (And.intro rfl (And.intro rfl (And.intro rfl (And.intro rfl (trivial)))))))
          · rw [if_neg c] at e
            refine xw_ild (show xm_Imp g Γ 51 (xi_ild 4 53) from xs_iload hΓ dX1_phaseOf_51) rfl ?_
            refine xw_ild (show xm_Imp g Γ 53 (xi_ild 7 55) from xs_iload hΓ dX1_phaseOf_53) rfl ?_
            refine xw_ild (show xm_Imp g Γ 55 (xi_ild 6 57) from xs_iload hΓ dX1_phaseOf_55) rfl ?_
            refine xw_ii (show xm_Imp g Γ 57 (xi_ii (fun x y => x - y) 58) from xs_isub hΓ dX1_phaseOf_57) ?_
            refine xw_psh (v := (.int (3))) (show xm_Imp g Γ 58 (xi_psh (.int (3)) 59) from xs_iconst hΓ dX1_phaseOf_58 (by decide)) ?_
            refine xw_ii (show xm_Imp g Γ 59 (xi_ii (fun x y => x + y) 60) from xs_iadd hΓ dX1_phaseOf_59) ?_
            refine xw_psh (v := (.int (3))) (show xm_Imp g Γ 60 (xi_psh (.int (3)) 61) from xs_iconst hΓ dX1_phaseOf_60 (by decide)) ?_
            refine xw_id (show xm_Imp g Γ 61 (xi_id (fun x y => x - x / y * y) 62) from xs_irem hΓ dX1_phaseOf_61) (by decide) ?_
            refine xw_psh (v := (.int (1))) (show xm_Imp g Γ 62 (xi_psh (.int (1)) 63) from xs_iconst hΓ dX1_phaseOf_62 (by decide)) ?_
            refine xw_ic (show xm_Imp g Γ 63 (xi_ic (fun x y => x = y) 66 70) from xs_icmp_ne hΓ dX1_phaseOf_63 (by decide)) (fun c => ?_) (fun c => ?_)
            · rw [if_pos c] at e
              refine xw_psh (v := (.int (1))) (show xm_Imp g Γ 66 (xi_psh (.int (1)) 67) from xs_iconst hΓ dX1_phaseOf_66 (by decide)) ?_
              refine xw_goto (show xm_Imp g Γ 67 (xi_goto 71) from xs_goto hΓ dX1_phaseOf_67 (by decide)) ?_
              refine xw_ii (show xm_Imp g Γ 71 (xi_ii (fun x y => x + y) 72) from xs_iadd hΓ dX1_phaseOf_71) ?_
              refine xw_ist (ls' := [some (.int l0), some (.int l1), some (.int l2), some (.int l3), some (.int (s.1 + 1)), some (.int s.2), some (.int (F_X1_letterOf l0 l1 s.2)), some (.int (F_X1_letterOf l2 l3 s.2))]) (show xm_Imp g Γ 72 (xi_ist 4 74) from xs_istore hΓ dX1_phaseOf_72 (Nat.le_of_ble_eq_true rfl)) rfl ?_
              exact xm_lx (hB_74 _ _ _ e hp) (And.intro rfl (And.intro rfl (And.intro rfl (And.intro rfl (And.intro rfl (And.intro rfl (trivial)))))))
            · rw [if_neg c] at e
              refine xw_psh (v := (.int (3))) (show xm_Imp g Γ 70 (xi_psh (.int (3)) 71) from xs_iconst hΓ dX1_phaseOf_70 (by decide)) ?_
              refine xw_ii (show xm_Imp g Γ 71 (xi_ii (fun x y => x + y) 72) from xs_iadd hΓ dX1_phaseOf_71) ?_
              refine xw_ist (ls' := [some (.int l0), some (.int l1), some (.int l2), some (.int l3), some (.int (s.1 + 3)), some (.int s.2), some (.int (F_X1_letterOf l0 l1 s.2)), some (.int (F_X1_letterOf l2 l3 s.2))]) (show xm_Imp g Γ 72 (xi_ist 4 74) from xs_istore hΓ dX1_phaseOf_72 (Nat.le_of_ble_eq_true rfl)) rfl ?_
              exact xm_lx (hB_74 _ _ _ e hp) (And.intro rfl (And.intro rfl (And.intro rfl (And.intro rfl (And.intro rfl (And.intro rfl (trivial)))))))
  unfold F_X1_phaseOf at e
  refine xw_psh (v := (.int (0))) (show xm_Imp g Γ 0 (xi_psh (.int (0)) 1) from xs_iconst hΓ dX1_phaseOf_0 (by decide)) ?_
  refine xw_ist (ls' := [some (.int p0), some (.int p1), some (.int p2), some (.int p3), some (.int 0), none, none, none]) (show xm_Imp g Γ 1 (xi_ist 4 3) from xs_istore hΓ dX1_phaseOf_1 (Nat.le_of_ble_eq_true rfl)) rfl ?_
  refine xw_psh (v := (.int (0))) (show xm_Imp g Γ 3 (xi_psh (.int (0)) 4) from xs_iconst hΓ dX1_phaseOf_3 (by decide)) ?_
  refine xw_ist (ls' := [some (.int p0), some (.int p1), some (.int p2), some (.int p3), some (.int 0), some (.int 0), none, none]) (show xm_Imp g Γ 4 (xi_ist 5 6) from xs_istore hΓ dX1_phaseOf_4 (Nat.le_of_ble_eq_true rfl)) rfl ?_
  exact hL_6 _ _ _ _ _ _ e hp
noncomputable def B_X4_multiply_37 (g : xm_G) (l0 : Nat) (l1 : Option Nat) (s0 : Option Nat) (s1 : Int32) (s2 : Int32) (s3 : Int32) (h : xm_H) : Option (xm_H) :=
 xo_b s0 (fun a9 =>
 xo_b (xo_g (narrow .boolean (.int (s1 ^^^ (s2 ^^^ s3))) = .int (s1 ^^^ (s2 ^^^ s3)) ∧ fits .boolean (.int (s1 ^^^ (s2 ^^^ s3))) = true)) (fun _ =>
 xo_b (xh_w [(3, 2)] h a9 (.int (s1 ^^^ (s2 ^^^ s3)))) (fun h10 =>
 xo_b (xh_fi [(3, 0)] h10 l0) (fun v11 =>
 xo_b l1 (fun a12 =>
 xo_b (xh_fi [(3, 0)] h10 a12) (fun v13 =>
 xo_b (xh_w [(3, 0)] h10 l0 (.int (v11 ^^^ v13))) (fun h14 =>
 xo_b (xh_fi [(3, 1)] h14 l0) (fun v15 =>
 xo_b (xh_fi [(3, 1)] h14 a12) (fun v16 =>
 xo_b (xh_w [(3, 1)] h14 l0 (.int (v15 ^^^ v16))) (fun h17 =>
 some h17))))))))))
noncomputable def F_X4_multiply (g : xm_G) (p0 : Nat) (p1 : Option Nat) (h : xm_H) : Option (xm_H) :=
 xo_b (xh_fi [(3, 2)] h p0) (fun v1 =>
 xo_b p1 (fun a2 =>
 xo_b (xh_fi [(3, 2)] h a2) (fun v3 =>
 xo_b (xh_fi [(3, 0)] h p0) (fun v4 =>
 xo_b (xh_fi [(3, 1)] h p0) (fun v5 =>
 xo_b (xh_fi [(3, 0)] h a2) (fun v6 =>
 xo_b (xh_fi [(3, 1)] h a2) (fun v7 =>
 xo_b (F_X1_phaseOf v4 v5 v6 v7) (fun v8 =>
 B_X4_multiply_37 g p0 p1 (some p0) v1 v3 (if v8 = (2 : Int32) then 1 else 0) h))))))))
set_option maxHeartbeats 4000000 in
theorem K_X4_multiply {g : xm_G} (hG : xm_Gw g) (p0 : Nat) (p1 : Option Nat) (h : xm_H) {o : xm_H} (e : F_X4_multiply g p0 p1 h = some o) {Q : xm_P} {X : xm_X} (hQ : Q none o) : xm_Run g M_X4_multiply 4 [.ref p0, va_rf p1] h 0 0 Q X := by
  refine xm_Run.of2 (ls := [some (.ref p0), some (va_rf p1)]) pn_StringTableau_Row (by cases p1 <;> exact Nat.le_of_ble_eq_true rfl) (by cases p1 <;> rfl) (fun Γ hΓ => ?_)
  obtain ⟨P0, hP0, hp⟩ : ∃ P : xm_H → Prop, (∀ o, P o → Q none o) ∧ P o := ⟨fun o => Q none o, fun _ h => h, hQ⟩
  clear hQ
  show xm_W g Γ 0 [some (.ref p0), some (va_rf p1)] [] h 0 0
  have hB_37 : ∀ (l0 : Nat) (l1 : Option Nat) (s0 : Option Nat) (s1 : Int32) (s2 : Int32) (s3 : Int32) (h : xm_H) (o : xm_H), B_X4_multiply_37 g l0 l1 s0 s1 s2 s3 h = some o → P0 o → xm_W g Γ 37 [some (.ref l0), some (va_rf l1)] [.int s3, .int s2, .int s1, va_rf s0] h 0 0 := by
    intro l0 l1 s0 s1 s2 s3 h o e hp
    unfold B_X4_multiply_37 at e
    refine xw_ii (show xm_Imp g Γ 37 (xi_ii (fun x y => x ^^^ y) 38) from xs_ixor hΓ dX4_multiply_37) ?_
    refine xw_ii (show xm_Imp g Γ 38 (xi_ii (fun x y => x ^^^ y) 39) from xs_ixor hΓ dX4_multiply_38) ?_
    obtain ⟨a9, ha9, e⟩ := xo_b_s e
    obtain ⟨_, en, e⟩ := xo_b_s e
    obtain ⟨h10, e1, e⟩ := xo_b_s e
    refine xw_pt1 (o := s0) (show xm_Imp g Γ 39 (xi_put 3 2 (.boolean) 42) from xs_put hG hΓ (ci := 3) (kf := 2) rfl (Nat.le_of_ble_eq_true rfl) rfl (by decide +kernel) q256 dX4_multiply_39) ha9 (xo_g_s en) e1 ?_
    refine xw_ald (show xm_Imp g Γ 42 (xi_ald 0 43) from xs_aload_n hΓ dX4_multiply_42) rfl ?_
    refine xw_dup (show xm_Imp g Γ 43 (xi_dup 44) from xs_dup hΓ dX4_multiply_43) rfl ?_
    obtain ⟨v11, e1, e⟩ := xo_b_s e
    refine xw_gi1 (o := (some l0)) (show xm_Imp g Γ 44 (xi_get 3 0 47) from xs_get hG hΓ (ci := 3) (kf := 0) rfl (Nat.le_of_ble_eq_true rfl) q246 dX4_multiply_44) rfl e1 ?_
    refine xw_aldo (x := l1) (show xm_Imp g Γ 47 (xi_ald 1 48) from xs_aload_n hΓ dX4_multiply_47) rfl ?_
    obtain ⟨a12, ha12, e⟩ := xo_b_s e
    obtain ⟨v13, e1, e⟩ := xo_b_s e
    refine xw_gi1 (o := l1) (show xm_Imp g Γ 48 (xi_get 3 0 51) from xs_get hG hΓ (ci := 3) (kf := 0) rfl (Nat.le_of_ble_eq_true rfl) q246 dX4_multiply_48) ha12 e1 ?_
    refine xw_ii (show xm_Imp g Γ 51 (xi_ii (fun x y => x ^^^ y) 52) from xs_ixor hΓ dX4_multiply_51) ?_
    obtain ⟨h14, e1, e⟩ := xo_b_s e
    refine xw_pt1 (o := (some l0)) (show xm_Imp g Γ 52 (xi_put 3 0 (.int) 55) from xs_put hG hΓ (ci := 3) (kf := 0) rfl (Nat.le_of_ble_eq_true rfl) rfl (by decide +kernel) q246 dX4_multiply_52) rfl (xf_int _) e1 ?_
    refine xw_ald (show xm_Imp g Γ 55 (xi_ald 0 56) from xs_aload_n hΓ dX4_multiply_55) rfl ?_
    refine xw_dup (show xm_Imp g Γ 56 (xi_dup 57) from xs_dup hΓ dX4_multiply_56) rfl ?_
    obtain ⟨v15, e1, e⟩ := xo_b_s e
    refine xw_gi1 (o := (some l0)) (show xm_Imp g Γ 57 (xi_get 3 1 60) from xs_get hG hΓ (ci := 3) (kf := 1) rfl (Nat.le_of_ble_eq_true rfl) q251 dX4_multiply_57) rfl e1 ?_
    refine xw_aldo (x := l1) (show xm_Imp g Γ 60 (xi_ald 1 61) from xs_aload_n hΓ dX4_multiply_60) rfl ?_
    obtain ⟨v16, e1, e⟩ := xo_b_s e
    refine xw_gi1 (o := l1) (show xm_Imp g Γ 61 (xi_get 3 1 64) from xs_get hG hΓ (ci := 3) (kf := 1) rfl (Nat.le_of_ble_eq_true rfl) q251 dX4_multiply_61) ha12 e1 ?_
    refine xw_ii (show xm_Imp g Γ 64 (xi_ii (fun x y => x ^^^ y) 65) from xs_ixor hΓ dX4_multiply_64) ?_
    obtain ⟨h17, e1, e⟩ := xo_b_s e
    refine xw_pt1 (o := (some l0)) (show xm_Imp g Γ 65 (xi_put 3 1 (.int) 68) from xs_put hG hΓ (ci := 3) (kf := 1) rfl (Nat.le_of_ble_eq_true rfl) rfl (by decide +kernel) q251 dX4_multiply_65) rfl (xf_int _) e1 ?_
    exact xw_vret (show xm_Imp g Γ 68 (xi_vret _) from xs_return hΓ rfl dX4_multiply_68) (hP0 _ (xl_fin e hp))
  unfold F_X4_multiply at e
  refine xw_ald (show xm_Imp g Γ 0 (xi_ald 0 1) from xs_aload_n hΓ dX4_multiply_0) rfl ?_
  refine xw_dup (show xm_Imp g Γ 1 (xi_dup 2) from xs_dup hΓ dX4_multiply_1) rfl ?_
  obtain ⟨v1, e1, e⟩ := xo_b_s e
  refine xw_gi1 (o := (some p0)) (show xm_Imp g Γ 2 (xi_get 3 2 5) from xs_get hG hΓ (ci := 3) (kf := 2) rfl (Nat.le_of_ble_eq_true rfl) q256 dX4_multiply_2) rfl e1 ?_
  refine xw_aldo (x := p1) (show xm_Imp g Γ 5 (xi_ald 1 6) from xs_aload_n hΓ dX4_multiply_5) rfl ?_
  obtain ⟨a2, ha2, e⟩ := xo_b_s e
  obtain ⟨v3, e1, e⟩ := xo_b_s e
  refine xw_gi1 (o := p1) (show xm_Imp g Γ 6 (xi_get 3 2 9) from xs_get hG hΓ (ci := 3) (kf := 2) rfl (Nat.le_of_ble_eq_true rfl) q256 dX4_multiply_6) ha2 e1 ?_
  refine xw_ald (show xm_Imp g Γ 9 (xi_ald 0 10) from xs_aload_n hΓ dX4_multiply_9) rfl ?_
  obtain ⟨v4, e1, e⟩ := xo_b_s e
  refine xw_gi1 (o := (some p0)) (show xm_Imp g Γ 10 (xi_get 3 0 13) from xs_get hG hΓ (ci := 3) (kf := 0) rfl (Nat.le_of_ble_eq_true rfl) q246 dX4_multiply_10) rfl e1 ?_
  refine xw_ald (show xm_Imp g Γ 13 (xi_ald 0 14) from xs_aload_n hΓ dX4_multiply_13) rfl ?_
  obtain ⟨v5, e1, e⟩ := xo_b_s e
  refine xw_gi1 (o := (some p0)) (show xm_Imp g Γ 14 (xi_get 3 1 17) from xs_get hG hΓ (ci := 3) (kf := 1) rfl (Nat.le_of_ble_eq_true rfl) q251 dX4_multiply_14) rfl e1 ?_
  refine xw_aldo (x := p1) (show xm_Imp g Γ 17 (xi_ald 1 18) from xs_aload_n hΓ dX4_multiply_17) rfl ?_
  obtain ⟨v6, e1, e⟩ := xo_b_s e
  refine xw_gi1 (o := p1) (show xm_Imp g Γ 18 (xi_get 3 0 21) from xs_get hG hΓ (ci := 3) (kf := 0) rfl (Nat.le_of_ble_eq_true rfl) q246 dX4_multiply_18) ha2 e1 ?_
  refine xw_aldo (x := p1) (show xm_Imp g Γ 21 (xi_ald 1 22) from xs_aload_n hΓ dX4_multiply_21) rfl ?_
  obtain ⟨v7, e1, e⟩ := xo_b_s e
  refine xw_gi1 (o := p1) (show xm_Imp g Γ 22 (xi_get 3 1 25) from xs_get hG hΓ (ci := 3) (kf := 1) rfl (Nat.le_of_ble_eq_true rfl) q251 dX4_multiply_22) ha2 e1 ?_
  obtain ⟨v8, e1, e⟩ := xo_b_s e
  refine xw_sv4 (show xm_Imp g Γ 25 (xi_inv g M_X1_phaseOf 3 4 28) from xs_invSN hG hΓ k_X1_phaseOf rfl q1234 q1235 dX4_multiply_25) rfl (fun Q X hQ => K_X1_phaseOf hG v4 v5 v6 v7 e1 hQ) ?_
  refine xw_psh (v := (.int (2))) (show xm_Imp g Γ 28 (xi_psh (.int (2)) 29) from xs_iconst hΓ dX4_multiply_28 (by decide)) ?_
  refine xw_ic (show xm_Imp g Γ 29 (xi_ic (fun x y => x = y) 32 36) from xs_icmp_ne hΓ dX4_multiply_29 (by decide)) (fun c => ?_) (fun c => ?_)
  · rw [if_pos c] at e
    refine xw_psh (v := (.int (1))) (show xm_Imp g Γ 32 (xi_psh (.int (1)) 33) from xs_iconst hΓ dX4_multiply_32 (by decide)) ?_
    refine xw_goto (show xm_Imp g Γ 33 (xi_goto 37) from xs_goto hΓ dX4_multiply_33 (by decide)) ?_
    exact hB_37 _ _ _ _ _ _ _ _ e hp
  · rw [if_neg c] at e
    refine xw_psh (v := (.int (0))) (show xm_Imp g Γ 36 (xi_psh (.int (0)) 37) from xs_iconst hΓ dX4_multiply_36 (by decide)) ?_
    exact hB_37 _ _ _ _ _ _ _ _ e hp
noncomputable def B_X3_element_40 (g : xm_G) (l0 : Nat) (l1 : Int32) (l2 : Option Nat) (l3 : Int32) (h : xm_H) (bc : Nat) (bs : Nat) (k13 : Int32 × xm_H × Nat × Nat → Prop) (Q : Option Nat → xm_H → Prop) : Prop :=
 k13 ((l3 + 1), h, bc, bs)
noncomputable def D_X3_element_13 (g : xm_G) (l0 : Nat) (l1 : Int32) (l2 : Option Nat) (Q : Option Nat → xm_H → Prop) (k13 : Int32 × xm_H × Nat × Nat → Prop) (s : Int32 × xm_H × Nat × Nat) : Prop :=
 xt_b (xh_fr [(2, 0)] s.2.1 l0) (fun v6 =>
 xt_b v6 (fun a7 =>
 xt_b (xh_len s.2.1 a7) (fun v8 =>
 (if v8 ≤ s.1 then
 Q l2 s.2.1 else
 (if (F_X1_has l1 s.1) = 0 then
 B_X3_element_40 g l0 l1 l2 s.1 s.2.1 s.2.2.1 s.2.2.2 k13 Q else
 xt_b (xh_fr [(2, 0)] s.2.1 l0) (fun v9 =>
 xt_b v9 (fun a10 =>
 xt_b (xh_ar "StringTableau$Row" s.2.1 a10 s.1) (fun v11 =>
 xt_b l2 (fun a12 =>
 xt_b (xh_is 3 s.2.1 a12) (fun _ =>
 xt_b (F_X4_multiply g a12 v11 s.2.1) (fun v13 =>
 B_X3_element_40 g l0 l1 l2 s.1 v13 s.2.2.1 s.2.2.2 k13 Q)))))))))))
noncomputable def L_X3_element_13 (g : xm_G) (l0 : Nat) (l1 : Int32) (l2 : Option Nat) (Q : Option Nat → xm_H → Prop) (s : Int32 × xm_H × Nat × Nat) : Prop := xt_loop (D_X3_element_13 g l0 l1 l2 Q) s
noncomputable def F_X3_element (g : xm_G) (p0 : Nat) (p1 : Int32) (h : xm_H) (bc : Nat) (bs : Nat) (Q : Option Nat → xm_H → Prop) : Prop :=
 xt_new h bc bs 3 (.inr (3, [.int 0, .int 0, .int 0])) (fun a1 h2 b3 b4 =>
 xt_b (F_X4_init g a1 0 0 0 h2) (fun v5 =>
 L_X3_element_13 g p0 p1 (some a1) Q (0, v5, b3, b4)))
set_option maxHeartbeats 4000000 in
theorem K_X3_element {g : xm_G} (hG : xm_Gw g) (p0 : Nat) (p1 : Int32) (h : xm_H) (bc : Nat) (bs : Nat) {Q : Option Nat → xm_H → Prop} (e : F_X3_element g p0 p1 h bc bs Q) : xm_Run g M_X3_element 5 [.ref p0, .int p1] h bc bs (fun v h' => ∃ r, v = some (va_rf r) ∧ Q r h') xm_no := by
  refine xm_Run.of pn_StringTableau_Tableau (Nat.le_of_ble_eq_true rfl) (fun Γ hΓ => ?_)
  show xm_W g Γ 0 [some (.ref p0), some (.int p1), none, none] [] h bc bs
  have hL_13 : ∀ (l0 : Nat) (l1 : Int32) (l2 : Option Nat) (s : Int32 × xm_H × Nat × Nat), L_X3_element_13 g l0 l1 l2 Q s → xm_W g Γ 13 [some (.ref l0), some (.int l1), some (va_rf l2), some (.int s.1)] [] s.2.1 s.2.2.1 s.2.2.2 := by
    intro l0 l1 l2
    refine xt_rule (WS := fun s : Int32 × xm_H × Nat × Nat => xm_W g Γ 13 [some (.ref l0), some (.int l1), some (va_rf l2), some (.int s.1)] [] s.2.1 s.2.2.1 s.2.2.2) ?_
    intro k13 hk13 s e
    have hB_40 : ∀ (l3 : Int32) (h : xm_H) (bc : Nat) (bs : Nat), B_X3_element_40 g l0 l1 l2 l3 h bc bs k13 Q → xm_W g Γ 40 [some (.ref l0), some (.int l1), some (va_rf l2), some (.int l3)] [] h bc bs := by
      intro l3 h bc bs e
      unfold B_X3_element_40 at e
      refine xw_inc (v := (1)) (ls' := [some (.ref l0), some (.int l1), some (va_rf l2), some (.int (l3 + 1))]) (show xm_Imp g Γ 40 (xi_inc 3 (1) 43) from xs_iinc hΓ dX3_element_40 (by decide) (Nat.le_of_ble_eq_true rfl)) rfl ((xm_s1_o (o := l2) rfl).trans rfl) ?_
      refine xw_goto (show xm_Imp g Γ 43 (xi_goto 13) from xs_goto hΓ dX3_element_43 (by decide)) ?_
      have hq := hk13 _ e; exact hq
    unfold D_X3_element_13 at e
    refine xw_ild (show xm_Imp g Γ 13 (xi_ild 3 14) from xs_iload_n hΓ dX3_element_13) rfl ?_
    refine xw_ald (show xm_Imp g Γ 14 (xi_ald 0 15) from xs_aload_n hΓ dX3_element_14) rfl ?_
    obtain ⟨v6, e1, e⟩ := e
    refine xw_gr1 (o := (some l0)) (show xm_Imp g Γ 15 (xi_get 2 0 18) from xs_get hG hΓ (ci := 2) (kf := 0) rfl (Nat.le_of_ble_eq_true rfl) q268 dX3_element_15) rfl e1 ?_
    obtain ⟨a7, ha7, e⟩ := e
    obtain ⟨v8, e1, e⟩ := e
    refine xw_hlen (o := v6) (show xm_Imp g Γ 18 (xi_len 19) from xs_len hG hΓ dX3_element_18) ha7 e1 ?_
    refine xw_ic (show xm_Imp g Γ 19 (xi_ic (fun x y => y ≤ x) 46 22) from xs_icmp_ge hΓ dX3_element_19 (by decide)) (fun c => ?_) (fun c => ?_)
    · rw [if_pos c] at e
      refine xw_aldo (x := l2) (show xm_Imp g Γ 46 (xi_ald 2 47) from xs_aload_n hΓ dX3_element_46) rfl ?_
      exact xw_areto (show xm_Imp g Γ 47 (xi_aret _) from xs_areturn hΓ rfl (Or.inl ⟨_, rfl⟩) dX3_element_47) ⟨_, rfl, e⟩
    · rw [if_neg c] at e
      refine xw_ild (show xm_Imp g Γ 22 (xi_ild 1 23) from xs_iload_n hΓ dX3_element_22) rfl ?_
      refine xw_ild (show xm_Imp g Γ 23 (xi_ild 3 24) from xs_iload_n hΓ dX3_element_23) rfl ?_
      refine xw_sv2 (show xm_Imp g Γ 24 (xi_inv g M_X1_has 1 2 27) from xs_invSN hG hΓ k_X1_has rfl q1223 q1224 dX3_element_24) rfl (fun Q X hQ => K_X1_has hG l1 s.1 rfl hQ) ?_
      refine xw_if (show xm_Imp g Γ 27 (xi_if (fun x => x = 0) 40 30) from xs_if_eq hΓ dX3_element_27 (by decide)) (fun c => ?_) (fun c => ?_)
      · rw [if_pos c] at e
        exact hB_40 _ _ _ _ e
      · rw [if_neg c] at e
        refine xw_aldo (x := l2) (show xm_Imp g Γ 30 (xi_ald 2 31) from xs_aload_n hΓ dX3_element_30) rfl ?_
        refine xw_ald (show xm_Imp g Γ 31 (xi_ald 0 32) from xs_aload_n hΓ dX3_element_31) rfl ?_
        obtain ⟨v9, e1, e⟩ := e
        refine xw_gr1 (o := (some l0)) (show xm_Imp g Γ 32 (xi_get 2 0 35) from xs_get hG hΓ (ci := 2) (kf := 0) rfl (Nat.le_of_ble_eq_true rfl) q268 dX3_element_32) rfl e1 ?_
        refine xw_ild (show xm_Imp g Γ 35 (xi_ild 3 36) from xs_iload_n hΓ dX3_element_35) rfl ?_
        obtain ⟨a10, ha10, e⟩ := e
        obtain ⟨v11, e1, e⟩ := e
        refine xw_haal (o := v9) (show xm_Imp g Γ 36 (xi_aal "StringTableau$Row" 37) from xs_aal hG hΓ dX3_element_36) ha10 e1 ?_
        obtain ⟨a12, ha12, e⟩ := e
        obtain ⟨_, e0, e⟩ := e
        obtain ⟨v13, e1, e⟩ := e
        refine xw_hu1 (o := l2) (show xm_Imp g Γ 37 (xi_vir g 3 M_X4_multiply 4 1 40) from xs_invV hG hΓ k_X4_multiply rfl (ci := 3) rfl q1230 q1231 q1232 dX3_element_37) (by simp [xm_stk, xv_cat, xc_int, xc_long, xc_float, xc_double, xc_ref]) ha12 e0 (fun Q X hQ => K_X4_multiply hG a12 v11 _ e1 hQ) ?_
        exact hB_40 _ _ _ _ e
  unfold F_X3_element at e
  refine xw_new (show xm_Imp g Γ 0 (xi_new 3 3 [.int 0, .int 0, .int 0] 3) from xs_new hG hΓ (ci := 3) rfl q239 q241 q127 rfl tyX4 tyX4_ok (xm_df 3 (by decide +kernel)) dX3_element_0) e (fun a1 h2 b3 b4 e => ?_)
  refine xw_dup (show xm_Imp g Γ 3 (xi_dup 4) from xs_dup hΓ dX3_element_3) rfl ?_
  refine xw_psh (v := (.int (0))) (show xm_Imp g Γ 4 (xi_psh (.int (0)) 5) from xs_iconst hΓ dX3_element_4 (by decide)) ?_
  refine xw_psh (v := (.int (0))) (show xm_Imp g Γ 5 (xi_psh (.int (0)) 6) from xs_iconst hΓ dX3_element_5 (by decide)) ?_
  refine xw_psh (v := (.int (0))) (show xm_Imp g Γ 6 (xi_psh (.int (0)) 7) from xs_iconst hΓ dX3_element_6 (by decide)) ?_
  obtain ⟨v5, e1, e⟩ := e
  refine xw_pu3 (o := (some a1)) (show xm_Imp g Γ 7 (xi_spe g M_X4_init 2 3 10) from xs_invI hG hΓ k_X4_init rfl q242 q243 rfl dX3_element_7) rfl rfl (fun Q X hQ => K_X4_init hG a1 0 0 0 _ e1 hQ) ?_
  refine xw_ast (ls' := [some (.ref p0), some (.int p1), some (.ref a1), none]) (show xm_Imp g Γ 10 (xi_ast 2 11) from xs_astore_n hΓ dX3_element_10 (Nat.le_of_ble_eq_true rfl)) rfl ?_
  refine xw_psh (v := (.int (0))) (show xm_Imp g Γ 11 (xi_psh (.int (0)) 12) from xs_iconst hΓ dX3_element_11 (by decide)) ?_
  refine xw_ist (ls' := [some (.ref p0), some (.int p1), some (.ref a1), some (.int 0)]) (show xm_Imp g Γ 12 (xi_ist 3 13) from xs_istore_n hΓ dX3_element_12 (Nat.le_of_ble_eq_true rfl)) rfl ?_
  exact hL_13 _ _ _ _ e
noncomputable def F_X3_contains (g : xm_G) (p0 : Nat) (p1 : Option Nat) (h : xm_H) (bc : Nat) (bs : Nat) (Q : Int32 → xm_H → Prop) : Prop :=
 xt_b p1 (fun a1 =>
 xt_b (xh_fi [(3, 0)] h a1) (fun v2 =>
 xt_b (xh_fi [(3, 1)] h a1) (fun v3 =>
 xt_b (xh_is 2 h p0) (fun _ =>
 xt_b (F_X3_decompose g p0 v2 v3 h) (fun v4 =>
 (if v4 = ((-1) : Int32) then
 Q 0 h else
 xt_b (xh_is 2 h p0) (fun _ =>
 xt_c bc bs (fun m5 m6 => F_X3_element g p0 v4 h m5 m6 (fun v8 h7 =>
 xt_b v8 (fun a9 =>
 xt_b (xh_fi [(3, 2)] h7 a9) (fun v10 =>
 xt_b (xh_fi [(3, 2)] h7 a1) (fun v11 =>
 (if v10 = v11 then
 Q 1 h7 else
 Q (-1) h7)))))))))))))
set_option maxHeartbeats 4000000 in
theorem K_X3_contains {g : xm_G} (hG : xm_Gw g) (p0 : Nat) (p1 : Option Nat) (h : xm_H) (bc : Nat) (bs : Nat) {Q : Int32 → xm_H → Prop} (e : F_X3_contains g p0 p1 h bc bs Q) : xm_Run g M_X3_contains 6 [.ref p0, va_rf p1] h bc bs (fun v h' => ∃ r, v = some (.int r) ∧ Q r h') xm_no := by
  refine xm_Run.of2 (ls := [some (.ref p0), some (va_rf p1), none]) pn_StringTableau_Tableau (by cases p1 <;> exact Nat.le_of_ble_eq_true rfl) (by cases p1 <;> rfl) (fun Γ hΓ => ?_)
  show xm_W g Γ 0 [some (.ref p0), some (va_rf p1), none] [] h bc bs
  unfold F_X3_contains at e
  refine xw_ald (show xm_Imp g Γ 0 (xi_ald 0 1) from xs_aload_n hΓ dX3_contains_0) rfl ?_
  refine xw_aldo (x := p1) (show xm_Imp g Γ 1 (xi_ald 1 2) from xs_aload_n hΓ dX3_contains_1) rfl ?_
  obtain ⟨a1, ha1, e⟩ := e
  obtain ⟨v2, e1, e⟩ := e
  refine xw_gi1 (o := p1) (show xm_Imp g Γ 2 (xi_get 3 0 5) from xs_getN hG hΓ (ci := 3) (kf := 0) rfl (Nat.le_of_ble_eq_true rfl) q249 dX3_contains_2) ha1 e1 ?_
  refine xw_aldo (x := p1) (show xm_Imp g Γ 5 (xi_ald 1 6) from xs_aload_n hΓ dX3_contains_5) rfl ?_
  obtain ⟨v3, e1, e⟩ := e
  refine xw_gi1 (o := p1) (show xm_Imp g Γ 6 (xi_get 3 1 9) from xs_getN hG hΓ (ci := 3) (kf := 1) rfl (Nat.le_of_ble_eq_true rfl) q254 dX3_contains_6) ha1 e1 ?_
  obtain ⟨_, e0, e⟩ := e
  obtain ⟨v4, e1, e⟩ := e
  refine xw_hv2 (o := (some p0)) (show xm_Imp g Γ 9 (xi_vir g 2 M_X3_decompose 2 2 12) from xs_invV hG hΓ k_X3_decompose rfl (ci := 2) rfl q1219 q1220 q1221 dX3_contains_9) rfl rfl e0 (fun Q X hQ => K_X3_decompose hG p0 v2 v3 _ e1 hQ) ?_
  refine xw_ist (ls' := [some (.ref p0), some (va_rf p1), some (.int v4)]) (show xm_Imp g Γ 12 (xi_ist 2 13) from xs_istore_n hΓ dX3_contains_12 (Nat.le_of_ble_eq_true rfl)) ((xm_s1_o (o := p1) rfl).trans rfl) ?_
  refine xw_ild (show xm_Imp g Γ 13 (xi_ild 2 14) from xs_iload_n hΓ dX3_contains_13) rfl ?_
  refine xw_psh (v := (.int (-1))) (show xm_Imp g Γ 14 (xi_psh (.int (-1)) 15) from xs_iconst hΓ dX3_contains_14 (by decide)) ?_
  refine xw_ic (show xm_Imp g Γ 15 (xi_ic (fun x y => x = y) 18 22) from xs_icmp_ne hΓ dX3_contains_15 (by decide)) (fun c => ?_) (fun c => ?_)
  · rw [if_pos c] at e
    refine xw_psh (v := (.int (0))) (show xm_Imp g Γ 18 (xi_psh (.int (0)) 19) from xs_iconst hΓ dX3_contains_18 (by decide)) ?_
    refine xw_goto (show xm_Imp g Γ 19 (xi_goto 42) from xs_goto hΓ dX3_contains_19 (by decide)) ?_
    exact xw_iret (show xm_Imp g Γ 42 (xi_iret .int _) from xs_ireturn hΓ rfl dX3_contains_42) (xn_int _) ⟨_, rfl, e⟩
  · rw [if_neg c] at e
    refine xw_ald (show xm_Imp g Γ 22 (xi_ald 0 23) from xs_aload_n hΓ dX3_contains_22) rfl ?_
    refine xw_ild (show xm_Imp g Γ 23 (xi_ild 2 24) from xs_iload_n hΓ dX3_contains_23) rfl ?_
    obtain ⟨_, e0, e⟩ := e
    obtain ⟨m5, m6, ⟨em1, em2⟩, e⟩ := e
    refine xw_tvr1 (o := (some p0)) (show xm_Imp g Γ 24 (xi_vir g 2 M_X3_element 5 1 27) from xs_invV hG hΓ k_X3_element rfl (ci := 2) rfl q1226 q1227 q1228 dX3_contains_24) rfl rfl e0 em1 em2 (K_X3_element hG p0 v4 _ _ _ e) (fun v8 h7 e => ?_)
    obtain ⟨a9, ha9, e⟩ := e
    obtain ⟨v10, e1, e⟩ := e
    refine xw_gi1 (o := v8) (show xm_Imp g Γ 27 (xi_get 3 2 30) from xs_getN hG hΓ (ci := 3) (kf := 2) rfl (Nat.le_of_ble_eq_true rfl) q257 dX3_contains_27) ha9 e1 ?_
    refine xw_aldo (x := p1) (show xm_Imp g Γ 30 (xi_ald 1 31) from xs_aload_n hΓ dX3_contains_30) rfl ?_
    obtain ⟨v11, e1, e⟩ := e
    refine xw_gi1 (o := p1) (show xm_Imp g Γ 31 (xi_get 3 2 34) from xs_getN hG hΓ (ci := 3) (kf := 2) rfl (Nat.le_of_ble_eq_true rfl) q257 dX3_contains_31) ha1 e1 ?_
    refine xw_ic (show xm_Imp g Γ 34 (xi_ic (fun x y => x = y) 37 41) from xs_icmp_ne hΓ dX3_contains_34 (by decide)) (fun c => ?_) (fun c => ?_)
    · rw [if_pos c] at e
      refine xw_psh (v := (.int (1))) (show xm_Imp g Γ 37 (xi_psh (.int (1)) 38) from xs_iconst hΓ dX3_contains_37 (by decide)) ?_
      refine xw_goto (show xm_Imp g Γ 38 (xi_goto 42) from xs_goto hΓ dX3_contains_38 (by decide)) ?_
      exact xw_iret (show xm_Imp g Γ 42 (xi_iret .int _) from xs_ireturn hΓ rfl dX3_contains_42) (xn_int _) ⟨_, rfl, e⟩
    · rw [if_neg c] at e
      refine xw_psh (v := (.int (-1))) (show xm_Imp g Γ 41 (xi_psh (.int (-1)) 42) from xs_iconst hΓ dX3_contains_41 (by decide)) ?_
      exact xw_iret (show xm_Imp g Γ 42 (xi_iret .int _) from xs_ireturn hΓ rfl dX3_contains_42) (xn_int _) ⟨_, rfl, e⟩
noncomputable def F_X2_determined (g : xm_G) (p0 : Nat) (p1 : Option Nat) (h : xm_H) (bc : Nat) (bs : Nat) (Q : Int32 → xm_H → Prop) : Prop :=
 xt_b (xh_fr [(1, 0)] h p0) (fun v1 =>
 xt_b p1 (fun a2 =>
 xt_b (xh_fi [(3, 0)] h a2) (fun v3 =>
 xt_b (xh_fi [(3, 1)] h a2) (fun v4 =>
 xt_b v1 (fun a5 =>
 xt_b (xh_is 2 h a5) (fun _ =>
 xt_b (F_X3_against g a5 v3 v4 h) (fun v6 =>
 (if v6 = 0 then
 xt_b (xh_fr [(1, 0)] h p0) (fun v7 =>
 xt_b v7 (fun a8 =>
 xt_b (xh_is 2 h a8) (fun _ =>
 xt_c bc bs (fun m9 m10 => F_X3_contains g a8 p1 h m9 m10 (fun v12 h11 =>
 Q v12 h11))))) else
 Q 0 h))))))))
set_option maxHeartbeats 4000000 in
theorem K_X2_determined {g : xm_G} (hG : xm_Gw g) (p0 : Nat) (p1 : Option Nat) (h : xm_H) (bc : Nat) (bs : Nat) {Q : Int32 → xm_H → Prop} (e : F_X2_determined g p0 p1 h bc bs Q) : xm_Run g M_X2_determined 7 [.ref p0, va_rf p1] h bc bs (fun v h' => ∃ r, v = some (.int r) ∧ Q r h') xm_no := by
  refine xm_Run.of2 (ls := [some (.ref p0), some (va_rf p1)]) pn_StringTableau_State (by cases p1 <;> exact Nat.le_of_ble_eq_true rfl) (by cases p1 <;> rfl) (fun Γ hΓ => ?_)
  show xm_W g Γ 0 [some (.ref p0), some (va_rf p1)] [] h bc bs
  unfold F_X2_determined at e
  refine xw_ald (show xm_Imp g Γ 0 (xi_ald 0 1) from xs_aload_n hΓ dX2_determined_0) rfl ?_
  obtain ⟨v1, e1, e⟩ := e
  refine xw_gr1 (o := (some p0)) (show xm_Imp g Γ 1 (xi_get 1 0 4) from xs_get hG hΓ (ci := 1) (kf := 0) rfl (Nat.le_of_ble_eq_true rfl) q275 dX2_determined_1) rfl e1 ?_
  refine xw_aldo (x := p1) (show xm_Imp g Γ 4 (xi_ald 1 5) from xs_aload_n hΓ dX2_determined_4) rfl ?_
  obtain ⟨a2, ha2, e⟩ := e
  obtain ⟨v3, e1, e⟩ := e
  refine xw_gi1 (o := p1) (show xm_Imp g Γ 5 (xi_get 3 0 8) from xs_getN hG hΓ (ci := 3) (kf := 0) rfl (Nat.le_of_ble_eq_true rfl) q248 dX2_determined_5) ha2 e1 ?_
  refine xw_aldo (x := p1) (show xm_Imp g Γ 8 (xi_ald 1 9) from xs_aload_n hΓ dX2_determined_8) rfl ?_
  obtain ⟨v4, e1, e⟩ := e
  refine xw_gi1 (o := p1) (show xm_Imp g Γ 9 (xi_get 3 1 12) from xs_getN hG hΓ (ci := 3) (kf := 1) rfl (Nat.le_of_ble_eq_true rfl) q253 dX2_determined_9) ha2 e1 ?_
  obtain ⟨a5, ha5, e⟩ := e
  obtain ⟨_, e0, e⟩ := e
  obtain ⟨v6, e1, e⟩ := e
  refine xw_hv2 (o := v1) (show xm_Imp g Γ 12 (xi_vir g 2 M_X3_against 4 2 15) from xs_invV hG hΓ k_X3_against rfl (ci := 2) rfl q1198 q1199 q1200 dX2_determined_12) (by simp [xm_stk, xv_cat, xc_int, xc_long, xc_float, xc_double, xc_ref]) ha5 e0 (fun Q X hQ => K_X3_against hG a5 v3 v4 _ e1 hQ) ?_
  refine xw_if (show xm_Imp g Γ 15 (xi_if (fun x => x = 0) 20 18) from xs_if_eq hΓ dX2_determined_15 (by decide)) (fun c => ?_) (fun c => ?_)
  · rw [if_pos c] at e
    refine xw_ald (show xm_Imp g Γ 20 (xi_ald 0 21) from xs_aload_n hΓ dX2_determined_20) rfl ?_
    obtain ⟨v7, e1, e⟩ := e
    refine xw_gr1 (o := (some p0)) (show xm_Imp g Γ 21 (xi_get 1 0 24) from xs_get hG hΓ (ci := 1) (kf := 0) rfl (Nat.le_of_ble_eq_true rfl) q275 dX2_determined_21) rfl e1 ?_
    refine xw_aldo (x := p1) (show xm_Imp g Γ 24 (xi_ald 1 25) from xs_aload_n hΓ dX2_determined_24) rfl ?_
    obtain ⟨a8, ha8, e⟩ := e
    obtain ⟨_, e0, e⟩ := e
    obtain ⟨m9, m10, ⟨em1, em2⟩, e⟩ := e
    refine xw_tvi1 (o := v7) (show xm_Imp g Γ 25 (xi_vir g 2 M_X3_contains 6 1 28) from xs_invV hG hΓ k_X3_contains rfl (ci := 2) rfl q1215 q1216 q1217 dX2_determined_25) (by simp [xm_stk, xv_cat, xc_int, xc_long, xc_float, xc_double, xc_ref]) ha8 e0 em1 em2 (K_X3_contains hG a8 p1 _ _ _ e) (fun v12 h11 e => ?_)
    exact xw_iret (show xm_Imp g Γ 28 (xi_iret .int _) from xs_ireturn hΓ rfl dX2_determined_28) (xn_int _) ⟨_, rfl, e⟩
  · rw [if_neg c] at e
    refine xw_psh (v := (.int (0))) (show xm_Imp g Γ 18 (xi_psh (.int (0)) 19) from xs_iconst hΓ dX2_determined_18 (by decide)) ?_
    exact xw_iret (show xm_Imp g Γ 19 (xi_iret .int _) from xs_ireturn hΓ rfl dX2_determined_19) (xn_int _) ⟨_, rfl, e⟩
noncomputable def F_J2_size (g : xm_G) (p0 : Nat) (h : xm_H) : Option (Int32) :=
 xo_b (xh_fi [(12, 2)] h p0) (fun v1 =>
 some v1)
set_option maxHeartbeats 4000000 in
theorem K_J2_size {g : xm_G} (hG : xm_Gw g) (p0 : Nat) (h : xm_H) {o : Int32} (e : F_J2_size g p0 h = some o) {Q : xm_P} {X : xm_X} (hQ : Q (some (.int o)) h) : xm_Run g M_J2_size 1 [.ref p0] h 0 0 Q X := by
  refine xm_Run.of pn_java_util_ArrayList (Nat.le_of_ble_eq_true rfl) (fun Γ hΓ => ?_)
  obtain ⟨P0, hP0, hp⟩ : ∃ P : Int32 → Prop, (∀ o, P o → Q (some (.int o)) h) ∧ P o := ⟨fun o => Q (some (.int o)) h, fun _ h => h, hQ⟩
  clear hQ
  show xm_W g Γ 0 [some (.ref p0)] [] h 0 0
  unfold F_J2_size at e
  refine xw_ald (show xm_Imp g Γ 0 (xi_ald 0 1) from xs_aload_n hΓ dJ2_size_0) rfl ?_
  obtain ⟨v1, e1, e⟩ := xo_b_s e
  refine xw_gi1 (o := (some p0)) (show xm_Imp g Γ 1 (xi_get 12 2 4) from xs_get hG hΓ (ci := 12) (kf := 2) rfl (Nat.le_of_ble_eq_true rfl) q202 dJ2_size_1) rfl e1 ?_
  have hq := hP0 _ (xl_fin e hp)
  exact xw_iret (show xm_Imp g Γ 4 (xi_iret .int _) from xs_ireturn hΓ rfl dJ2_size_4) (xn_int _) hq
noncomputable def B_X2_canMeasure_37 (g : xm_G) (h : xm_H) (bc : Nat) (bs : Nat) (Q : Int32 → xm_H → Prop) : Prop :=
 Q 0 h
noncomputable def B_X2_canMeasure_33 (g : xm_G) (h : xm_H) (bc : Nat) (bs : Nat) (Q : Int32 → xm_H → Prop) : Prop :=
 Q 1 h
noncomputable def F_X2_canMeasure (g : xm_G) (p0 : Nat) (p1 : Option Nat) (p2 : Int32) (h : xm_H) (bc : Nat) (bs : Nat) (Q : Int32 → xm_H → Prop) : Prop :=
 xt_b (xh_is 1 h p0) (fun _ =>
 xt_c bc bs (fun m1 m2 => F_X2_determined g p0 p1 h m1 m2 (fun v4 h3 =>
 xt_b (xh_fr [(1, 1)] h3 p0) (fun v5 =>
 xt_b v5 (fun a6 =>
 xt_b (xh_is 12 h3 a6) (fun _ =>
 xt_b (F_J2_size g a6 h3) (fun v7 =>
 (if (100 : Int32) ≤ v7 then
 B_X2_canMeasure_37 g h3 (bc - m1) (bs - m2) Q else
 (if p2 = 0 then
 B_X2_canMeasure_33 g h3 (bc - m1) (bs - m2) Q else
 (if v4 = 0 then
 B_X2_canMeasure_33 g h3 (bc - m1) (bs - m2) Q else
 (if v4 = p2 then
 B_X2_canMeasure_33 g h3 (bc - m1) (bs - m2) Q else
 B_X2_canMeasure_37 g h3 (bc - m1) (bs - m2) Q)))))))))))
set_option maxHeartbeats 4000000 in
theorem K_X2_canMeasure {g : xm_G} (hG : xm_Gw g) (p0 : Nat) (p1 : Option Nat) (p2 : Int32) (h : xm_H) (bc : Nat) (bs : Nat) {Q : Int32 → xm_H → Prop} (e : F_X2_canMeasure g p0 p1 p2 h bc bs Q) : xm_Run g M_X2_canMeasure 8 [.ref p0, va_rf p1, .int p2] h bc bs (fun v h' => ∃ r, v = some (.int r) ∧ Q r h') xm_no := by
  refine xm_Run.of2 (ls := [some (.ref p0), some (va_rf p1), some (.int p2), none]) pn_StringTableau_State (by cases p1 <;> exact Nat.le_of_ble_eq_true rfl) (by cases p1 <;> rfl) (fun Γ hΓ => ?_)
  show xm_W g Γ 0 [some (.ref p0), some (va_rf p1), some (.int p2), none] [] h bc bs
  have hB_37 : ∀ (h : xm_H) (bc : Nat) (bs : Nat), B_X2_canMeasure_37 g h bc bs Q → xm_W g Γ 37 [none, none, none, none] [] h bc bs := by
    intro h bc bs e
    unfold B_X2_canMeasure_37 at e
    refine xw_psh (v := (.int (0))) (show xm_Imp g Γ 37 (xi_psh (.int (0)) 38) from xs_iconst hΓ dX2_canMeasure_37 (by decide)) ?_
    exact xw_iret (show xm_Imp g Γ 38 (xi_iret .boolean _) from xs_ireturn hΓ rfl dX2_canMeasure_38) rfl ⟨_, rfl, e⟩
  have hB_33 : ∀ (h : xm_H) (bc : Nat) (bs : Nat), B_X2_canMeasure_33 g h bc bs Q → xm_W g Γ 33 [none, none, none, none] [] h bc bs := by
    intro h bc bs e
    unfold B_X2_canMeasure_33 at e
    refine xw_psh (v := (.int (1))) (show xm_Imp g Γ 33 (xi_psh (.int (1)) 34) from xs_iconst hΓ dX2_canMeasure_33 (by decide)) ?_
    refine xw_goto (show xm_Imp g Γ 34 (xi_goto 38) from xs_goto hΓ dX2_canMeasure_34 (by decide)) ?_
    exact xw_iret (show xm_Imp g Γ 38 (xi_iret .boolean _) from xs_ireturn hΓ rfl dX2_canMeasure_38) rfl ⟨_, rfl, e⟩
  unfold F_X2_canMeasure at e
  refine xw_ald (show xm_Imp g Γ 0 (xi_ald 0 1) from xs_aload_n hΓ dX2_canMeasure_0) rfl ?_
  refine xw_aldo (x := p1) (show xm_Imp g Γ 1 (xi_ald 1 2) from xs_aload_n hΓ dX2_canMeasure_1) rfl ?_
  obtain ⟨_, e0, e⟩ := e
  obtain ⟨m1, m2, ⟨em1, em2⟩, e⟩ := e
  refine xw_tvi1 (o := (some p0)) (show xm_Imp g Γ 2 (xi_vir g 1 M_X2_determined 7 1 5) from xs_invV hG hΓ k_X2_determined rfl (ci := 1) rfl q1194 q1195 q1196 dX2_canMeasure_2) rfl rfl e0 em1 em2 (K_X2_determined hG p0 p1 _ _ _ e) (fun v4 h3 e => ?_)
  refine xw_ist (ls' := [some (.ref p0), some (va_rf p1), some (.int p2), some (.int v4)]) (show xm_Imp g Γ 5 (xi_ist 3 6) from xs_istore_n hΓ dX2_canMeasure_5 (Nat.le_of_ble_eq_true rfl)) rfl ?_
  refine xw_ald (show xm_Imp g Γ 6 (xi_ald 0 7) from xs_aload_n hΓ dX2_canMeasure_6) rfl ?_
  obtain ⟨v5, e1, e⟩ := e
  refine xw_gr1 (o := (some p0)) (show xm_Imp g Γ 7 (xi_get 1 1 10) from xs_get hG hΓ (ci := 1) (kf := 1) rfl (Nat.le_of_ble_eq_true rfl) q277 dX2_canMeasure_7) rfl e1 ?_
  obtain ⟨a6, ha6, e⟩ := e
  obtain ⟨_, e0, e⟩ := e
  obtain ⟨v7, e1, e⟩ := e
  refine xw_hv0 (o := v5) (show xm_Imp g Γ 10 (xi_vir g 12 M_J2_size 1 0 15) from xs_invF hG hΓ k_J2_size rfl (ci := 12) rfl q1242 q906 q904 ⟨by decide, by decide⟩ (by decide +kernel) q902 q901 q907 q905 q903 dX2_canMeasure_10) (by simp [xm_stk, xv_cat, xc_int, xc_long, xc_float, xc_double, xc_ref]) ha6 e0 (fun Q X hQ => K_J2_size hG a6 _ e1 hQ) ?_
  refine xw_psh (v := (.int (100))) (show xm_Imp g Γ 15 (xi_psh (.int (100)) 17) from xs_bipush hΓ dX2_canMeasure_15 (by decide)) ?_
  refine xw_ic (show xm_Imp g Γ 17 (xi_ic (fun x y => y ≤ x) 37 20) from xs_icmp_ge hΓ dX2_canMeasure_17 (by decide)) (fun c => ?_) (fun c => ?_)
  · rw [if_pos c] at e
    exact xm_lx (hB_37 _ _ _ e) (trivial)
  · rw [if_neg c] at e
    refine xw_ild (show xm_Imp g Γ 20 (xi_ild 2 21) from xs_iload_n hΓ dX2_canMeasure_20) rfl ?_
    refine xw_if (show xm_Imp g Γ 21 (xi_if (fun x => x = 0) 33 24) from xs_if_eq hΓ dX2_canMeasure_21 (by decide)) (fun c => ?_) (fun c => ?_)
    · rw [if_pos c] at e
      exact xm_lx (hB_33 _ _ _ e) (trivial)
    · rw [if_neg c] at e
      refine xw_ild (show xm_Imp g Γ 24 (xi_ild 3 25) from xs_iload_n hΓ dX2_canMeasure_24) rfl ?_
      refine xw_if (show xm_Imp g Γ 25 (xi_if (fun x => x = 0) 33 28) from xs_if_eq hΓ dX2_canMeasure_25 (by decide)) (fun c => ?_) (fun c => ?_)
      · rw [if_pos c] at e
        exact xm_lx (hB_33 _ _ _ e) (trivial)
      · rw [if_neg c] at e
        refine xw_ild (show xm_Imp g Γ 28 (xi_ild 3 29) from xs_iload_n hΓ dX2_canMeasure_28) rfl ?_
        refine xw_ild (show xm_Imp g Γ 29 (xi_ild 2 30) from xs_iload_n hΓ dX2_canMeasure_29) rfl ?_
        refine xw_ic (show xm_Imp g Γ 30 (xi_ic (fun x y => x = y) 33 37) from xs_icmp_ne hΓ dX2_canMeasure_30 (by decide)) (fun c => ?_) (fun c => ?_)
        · rw [if_pos c] at e
          exact xm_lx (hB_33 _ _ _ e) (trivial)
        · rw [if_neg c] at e
          exact xm_lx (hB_37 _ _ _ e) (trivial)
noncomputable def F_X4_copy (g : xm_G) (p0 : Nat) (h : xm_H) (bc : Nat) (bs : Nat) (Q : Option Nat → xm_H → Prop) : Prop :=
 xt_new h bc bs 3 (.inr (3, [.int 0, .int 0, .int 0])) (fun a1 h2 b3 b4 =>
 xt_b (xh_fi [(3, 0)] h2 p0) (fun v5 =>
 xt_b (xh_fi [(3, 1)] h2 p0) (fun v6 =>
 xt_b (xh_fi [(3, 2)] h2 p0) (fun v7 =>
 xt_b (F_X4_init g a1 v5 v6 v7 h2) (fun v8 =>
 Q (some a1) v8)))))
set_option maxHeartbeats 4000000 in
theorem K_X4_copy {g : xm_G} (hG : xm_Gw g) (p0 : Nat) (h : xm_H) (bc : Nat) (bs : Nat) {Q : Option Nat → xm_H → Prop} (e : F_X4_copy g p0 h bc bs Q) : xm_Run g M_X4_copy 3 [.ref p0] h bc bs (fun v h' => ∃ r, v = some (va_rf r) ∧ Q r h') xm_no := by
  refine xm_Run.of pn_StringTableau_Row (Nat.le_of_ble_eq_true rfl) (fun Γ hΓ => ?_)
  show xm_W g Γ 0 [some (.ref p0)] [] h bc bs
  unfold F_X4_copy at e
  refine xw_new (show xm_Imp g Γ 0 (xi_new 3 3 [.int 0, .int 0, .int 0] 3) from xs_new hG hΓ (ci := 3) rfl q1309 q241 q127 rfl tyX4 tyX4_ok (xm_df 3 (by decide +kernel)) dX4_copy_0) e (fun a1 h2 b3 b4 e => ?_)
  refine xw_dup (show xm_Imp g Γ 3 (xi_dup 4) from xs_dup hΓ dX4_copy_3) rfl ?_
  refine xw_ald (show xm_Imp g Γ 4 (xi_ald 0 5) from xs_aload_n hΓ dX4_copy_4) rfl ?_
  obtain ⟨v5, e1, e⟩ := e
  refine xw_gi1 (o := (some p0)) (show xm_Imp g Γ 5 (xi_get 3 0 8) from xs_get hG hΓ (ci := 3) (kf := 0) rfl (Nat.le_of_ble_eq_true rfl) q246 dX4_copy_5) rfl e1 ?_
  refine xw_ald (show xm_Imp g Γ 8 (xi_ald 0 9) from xs_aload_n hΓ dX4_copy_8) rfl ?_
  obtain ⟨v6, e1, e⟩ := e
  refine xw_gi1 (o := (some p0)) (show xm_Imp g Γ 9 (xi_get 3 1 12) from xs_get hG hΓ (ci := 3) (kf := 1) rfl (Nat.le_of_ble_eq_true rfl) q251 dX4_copy_9) rfl e1 ?_
  refine xw_ald (show xm_Imp g Γ 12 (xi_ald 0 13) from xs_aload_n hΓ dX4_copy_12) rfl ?_
  obtain ⟨v7, e1, e⟩ := e
  refine xw_gi1 (o := (some p0)) (show xm_Imp g Γ 13 (xi_get 3 2 16) from xs_get hG hΓ (ci := 3) (kf := 2) rfl (Nat.le_of_ble_eq_true rfl) q256 dX4_copy_13) rfl e1 ?_
  obtain ⟨v8, e1, e⟩ := e
  refine xw_pu3 (o := (some a1)) (show xm_Imp g Γ 16 (xi_spe g M_X4_init 2 3 19) from xs_invI hG hΓ k_X4_init rfl q1310 q243 rfl dX4_copy_16) rfl rfl (fun Q X hQ => K_X4_init hG a1 v5 v6 v7 _ e1 hQ) ?_
  exact xw_aret (show xm_Imp g Γ 19 (xi_aret _) from xs_areturn hΓ rfl (Or.inl ⟨_, rfl⟩) dX4_copy_19) ⟨_, rfl, e⟩
noncomputable def D_X3_copy_15 (g : xm_G) (l0 : Nat) (l1 : Option Nat) (Q : Option Nat → xm_H → Prop) (k15 : Int32 × xm_H × Nat × Nat → Prop) (s : Int32 × xm_H × Nat × Nat) : Prop :=
 xt_b (xh_fr [(2, 0)] s.2.1 l0) (fun v12 =>
 xt_b v12 (fun a13 =>
 xt_b (xh_len s.2.1 a13) (fun v14 =>
 (if v14 ≤ s.1 then
 Q l1 s.2.1 else
 xt_b l1 (fun a15 =>
 xt_b (xh_fr [(2, 0)] s.2.1 a15) (fun v16 =>
 xt_b (xh_fr [(2, 0)] s.2.1 l0) (fun v17 =>
 xt_b v17 (fun a18 =>
 xt_b (xh_ar "StringTableau$Row" s.2.1 a18 s.1) (fun v19 =>
 xt_b v19 (fun a20 =>
 xt_b (xh_is 3 s.2.1 a20) (fun _ =>
 xt_c s.2.2.1 s.2.2.2 (fun m21 m22 => F_X4_copy g a20 s.2.1 m21 m22 (fun v24 h23 =>
 xt_b v16 (fun a25 =>
 xt_b (xh_sr "StringTableau$Row" h23 a25 s.1 v24) (fun h26 =>
 k15 ((s.1 + 1), h26, (s.2.2.1 - m21), (s.2.2.2 - m22)))))))))))))))))
noncomputable def L_X3_copy_15 (g : xm_G) (l0 : Nat) (l1 : Option Nat) (Q : Option Nat → xm_H → Prop) (s : Int32 × xm_H × Nat × Nat) : Prop := xt_loop (D_X3_copy_15 g l0 l1 Q) s
noncomputable def F_X3_copy (g : xm_G) (p0 : Nat) (h : xm_H) (bc : Nat) (bs : Nat) (Q : Option Nat → xm_H → Prop) : Prop :=
 xt_new h bc bs 1 (.inr (2, [.null])) (fun a1 h2 b3 b4 =>
 xt_b (xh_fr [(2, 0)] h2 p0) (fun v5 =>
 xt_b v5 (fun a6 =>
 xt_b (xh_len h2 a6) (fun v7 =>
 xt_c b3 b4 (fun m8 m9 => F_X3_init g a1 v7 h2 m8 m9 (fun h10 =>
 L_X3_copy_15 g p0 (some a1) Q (0, h10, (b3 - m8), (b4 - m9))))))))
set_option maxHeartbeats 4000000 in
theorem K_X3_copy {g : xm_G} (hG : xm_Gw g) (p0 : Nat) (h : xm_H) (bc : Nat) (bs : Nat) {Q : Option Nat → xm_H → Prop} (e : F_X3_copy g p0 h bc bs Q) : xm_Run g M_X3_copy 4 [.ref p0] h bc bs (fun v h' => ∃ r, v = some (va_rf r) ∧ Q r h') xm_no := by
  refine xm_Run.of pn_StringTableau_Tableau (Nat.le_of_ble_eq_true rfl) (fun Γ hΓ => ?_)
  show xm_W g Γ 0 [some (.ref p0), none, none] [] h bc bs
  have hL_15 : ∀ (l0 : Nat) (l1 : Option Nat) (s : Int32 × xm_H × Nat × Nat), L_X3_copy_15 g l0 l1 Q s → xm_W g Γ 15 [some (.ref l0), some (va_rf l1), some (.int s.1)] [] s.2.1 s.2.2.1 s.2.2.2 := by
    intro l0 l1
    refine xt_rule (WS := fun s : Int32 × xm_H × Nat × Nat => xm_W g Γ 15 [some (.ref l0), some (va_rf l1), some (.int s.1)] [] s.2.1 s.2.2.1 s.2.2.2) ?_
    intro k15 hk15 s e
    unfold D_X3_copy_15 at e
    refine xw_ild (show xm_Imp g Γ 15 (xi_ild 2 16) from xs_iload_n hΓ dX3_copy_15) rfl ?_
    refine xw_ald (show xm_Imp g Γ 16 (xi_ald 0 17) from xs_aload_n hΓ dX3_copy_16) rfl ?_
    obtain ⟨v12, e1, e⟩ := e
    refine xw_gr1 (o := (some l0)) (show xm_Imp g Γ 17 (xi_get 2 0 20) from xs_get hG hΓ (ci := 2) (kf := 0) rfl (Nat.le_of_ble_eq_true rfl) q268 dX3_copy_17) rfl e1 ?_
    obtain ⟨a13, ha13, e⟩ := e
    obtain ⟨v14, e1, e⟩ := e
    refine xw_hlen (o := v12) (show xm_Imp g Γ 20 (xi_len 21) from xs_len hG hΓ dX3_copy_20) ha13 e1 ?_
    refine xw_ic (show xm_Imp g Γ 21 (xi_ic (fun x y => y ≤ x) 45 24) from xs_icmp_ge hΓ dX3_copy_21 (by decide)) (fun c => ?_) (fun c => ?_)
    · rw [if_pos c] at e
      refine xw_aldo (x := l1) (show xm_Imp g Γ 45 (xi_ald 1 46) from xs_aload_n hΓ dX3_copy_45) rfl ?_
      exact xw_areto (show xm_Imp g Γ 46 (xi_aret _) from xs_areturn hΓ rfl (Or.inl ⟨_, rfl⟩) dX3_copy_46) ⟨_, rfl, e⟩
    · rw [if_neg c] at e
      refine xw_aldo (x := l1) (show xm_Imp g Γ 24 (xi_ald 1 25) from xs_aload_n hΓ dX3_copy_24) rfl ?_
      obtain ⟨a15, ha15, e⟩ := e
      obtain ⟨v16, e1, e⟩ := e
      refine xw_gr1 (o := l1) (show xm_Imp g Γ 25 (xi_get 2 0 28) from xs_get hG hΓ (ci := 2) (kf := 0) rfl (Nat.le_of_ble_eq_true rfl) q268 dX3_copy_25) ha15 e1 ?_
      refine xw_ild (show xm_Imp g Γ 28 (xi_ild 2 29) from xs_iload_n hΓ dX3_copy_28) rfl ?_
      refine xw_ald (show xm_Imp g Γ 29 (xi_ald 0 30) from xs_aload_n hΓ dX3_copy_29) rfl ?_
      obtain ⟨v17, e1, e⟩ := e
      refine xw_gr1 (o := (some l0)) (show xm_Imp g Γ 30 (xi_get 2 0 33) from xs_get hG hΓ (ci := 2) (kf := 0) rfl (Nat.le_of_ble_eq_true rfl) q268 dX3_copy_30) rfl e1 ?_
      refine xw_ild (show xm_Imp g Γ 33 (xi_ild 2 34) from xs_iload_n hΓ dX3_copy_33) rfl ?_
      obtain ⟨a18, ha18, e⟩ := e
      obtain ⟨v19, e1, e⟩ := e
      refine xw_haal (o := v17) (show xm_Imp g Γ 34 (xi_aal "StringTableau$Row" 35) from xs_aal hG hΓ dX3_copy_34) ha18 e1 ?_
      obtain ⟨a20, ha20, e⟩ := e
      obtain ⟨_, e0, e⟩ := e
      obtain ⟨m21, m22, ⟨em1, em2⟩, e⟩ := e
      refine xw_tvr0 (o := v19) (show xm_Imp g Γ 35 (xi_vir g 3 M_X4_copy 3 0 38) from xs_invV hG hΓ k_X4_copy rfl (ci := 3) rfl q1305 q1306 q1307 dX3_copy_35) (by simp [xm_stk, xv_cat, xc_int, xc_long, xc_float, xc_double, xc_ref]) ha20 e0 em1 em2 (K_X4_copy hG a20 _ _ _ e) (fun v24 h23 e => ?_)
      obtain ⟨a25, ha25, e⟩ := e
      obtain ⟨h26, e1, e⟩ := e
      refine xw_haas (o := v16) (v := v24) (show xm_Imp g Γ 38 (xi_aas "StringTableau$Row" 39) from xs_aas hG hΓ dX3_copy_38) ha25 e1 ?_
      refine xw_inc (v := (1)) (ls' := [some (.ref l0), some (va_rf l1), some (.int (s.1 + 1))]) (show xm_Imp g Γ 39 (xi_inc 2 (1) 42) from xs_iinc hΓ dX3_copy_39 (by decide) (Nat.le_of_ble_eq_true rfl)) rfl ((xm_s1_o (o := l1) rfl).trans rfl) ?_
      refine xw_goto (show xm_Imp g Γ 42 (xi_goto 15) from xs_goto hΓ dX3_copy_42 (by decide)) ?_
      have hq := hk15 _ e; exact hq
  unfold F_X3_copy at e
  refine xw_new (show xm_Imp g Γ 0 (xi_new 2 1 [.null] 3) from xs_new hG hΓ (ci := 2) rfl q1303 q234 q126 rfl tyX3 tyX3_ok (xm_df 1 (by decide +kernel)) dX3_copy_0) e (fun a1 h2 b3 b4 e => ?_)
  refine xw_dup (show xm_Imp g Γ 3 (xi_dup 4) from xs_dup hΓ dX3_copy_3) rfl ?_
  refine xw_ald (show xm_Imp g Γ 4 (xi_ald 0 5) from xs_aload_n hΓ dX3_copy_4) rfl ?_
  obtain ⟨v5, e1, e⟩ := e
  refine xw_gr1 (o := (some p0)) (show xm_Imp g Γ 5 (xi_get 2 0 8) from xs_get hG hΓ (ci := 2) (kf := 0) rfl (Nat.le_of_ble_eq_true rfl) q268 dX3_copy_5) rfl e1 ?_
  obtain ⟨a6, ha6, e⟩ := e
  obtain ⟨v7, e1, e⟩ := e
  refine xw_hlen (o := v5) (show xm_Imp g Γ 8 (xi_len 9) from xs_len hG hΓ dX3_copy_8) ha6 e1 ?_
  obtain ⟨m8, m9, ⟨em1, em2⟩, e⟩ := e
  refine xw_tpu1 (o := (some a1)) (show xm_Imp g Γ 9 (xi_spe g M_X3_init 3 1 12) from xs_invI hG hΓ k_X3_init rfl q1304 q236 rfl dX3_copy_9) rfl rfl em1 em2 (K_X3_init hG a1 v7 _ _ _ e) (fun h10 e => ?_)
  refine xw_ast (ls' := [some (.ref p0), some (.ref a1), none]) (show xm_Imp g Γ 12 (xi_ast 1 13) from xs_astore_n hΓ dX3_copy_12 (Nat.le_of_ble_eq_true rfl)) rfl ?_
  refine xw_psh (v := (.int (0))) (show xm_Imp g Γ 13 (xi_psh (.int (0)) 14) from xs_iconst hΓ dX3_copy_13 (by decide)) ?_
  refine xw_ist (ls' := [some (.ref p0), some (.ref a1), some (.int 0)]) (show xm_Imp g Γ 14 (xi_ist 2 15) from xs_istore_n hΓ dX3_copy_14 (Nat.le_of_ble_eq_true rfl)) rfl ?_
  exact hL_15 _ _ _ e
noncomputable def F_J10_copyOf_3 (g : xm_G) (p0 : Option Nat) (p1 : Int32) (p2 : Option Nat) (h : xm_H) (bc : Nat) (bs : Nat) (Q : Option Nat → xm_H → Prop) : Prop :=
 (if p2 = (some (xm_mi g "[Ljava/lang/Object;")) then
 xt_b (xa_nat p1) (fun N5 =>
 xt_new h bc bs N5 (.inl (.object "java/lang/Object", N5, .inr (.inr (.inr (.inr (fun _ => none)))))) (fun a1 h2 b3 b4 =>
 xt_b p0 (fun a6 =>
 xt_b (xh_len h2 a6) (fun v7 =>
 xt_b (xh_cpq "java/lang/Object" h2 a6 0 a1 0 (if p1 < v7 then p1 else v7)) (fun h8 =>
 Q (some a1) h8))))) else
 False)
set_option maxHeartbeats 4000000 in
theorem K_J10_copyOf_3 {g : xm_G} (hG : xm_Gw g) (p0 : Option Nat) (p1 : Int32) (p2 : Option Nat) (h : xm_H) (bc : Nat) (bs : Nat) {Q : Option Nat → xm_H → Prop} (e : F_J10_copyOf_3 g p0 p1 p2 h bc bs Q) : xm_Run g M_J10_copyOf_3 6 [va_rf p0, .int p1, va_rf p2] h bc bs (fun v h' => ∃ r, v = some (va_rf r) ∧ Q r h') xm_no := by
  refine xm_Run.of2 (ls := [some (va_rf p0), some (.int p1), some (va_rf p2), none]) pn_java_util_Arrays (by cases p0 <;> cases p2 <;> exact Nat.le_of_ble_eq_true rfl) (by cases p0 <;> cases p2 <;> rfl) (fun Γ hΓ => ?_)
  show xm_W g Γ 0 [some (va_rf p0), some (.int p1), some (va_rf p2), none] [] h bc bs
  unfold F_J10_copyOf_3 at e
  refine xw_aldo (x := p2) (show xm_Imp g Γ 0 (xi_ald 2 1) from xs_aload_n hΓ dJ10_copyOf_3_0) rfl ?_
  refine xw_psh (v := (.ref (xm_mi g "[Ljava/lang/Object;"))) (show xm_Imp g Γ 1 (xi_psh (.ref (xm_mi g "[Ljava/lang/Object;")) 3) from xs_ldM hG hΓ q1081 (by decide +kernel) dJ10_copyOf_3_1) ?_
  refine xw_acm (o := p2) (o2 := (some (xm_mi g "[Ljava/lang/Object;"))) (show xm_Imp g Γ 3 (xi_acm 6 13) from xs_acmp_ne hΓ dJ10_copyOf_3_3 (by decide)) (fun c => ?_) (fun c => ?_)
  · rw [if_pos c] at e
    refine xw_ild (show xm_Imp g Γ 6 (xi_ild 1 7) from xs_iload_n hΓ dJ10_copyOf_3_6) rfl ?_
    obtain ⟨N5, e1, e⟩ := e
    refine xw_nra (show xm_Imp g Γ 7 (xi_nra "java/lang/Object" 10) from xs_anew hG hΓ (by decide) q1082 q220 dJ10_copyOf_3_7) e1 e (fun a1 h2 b3 b4 e => ?_)
    refine xw_goto (show xm_Imp g Γ 10 (xi_goto 24) from xs_goto hΓ dJ10_copyOf_3_10 (by decide)) ?_
    refine xw_ast (ls' := [some (va_rf p0), some (.int p1), some (va_rf p2), some (.ref a1)]) (show xm_Imp g Γ 24 (xi_ast 3 25) from xs_astore_n hΓ dJ10_copyOf_3_24 (Nat.le_of_ble_eq_true rfl)) ((xm_s1_o (o := p2) rfl).trans rfl) ?_
    refine xw_aldo (x := p0) (show xm_Imp g Γ 25 (xi_ald 0 26) from xs_aload_n hΓ dJ10_copyOf_3_25) rfl ?_
    refine xw_psh (v := (.int (0))) (show xm_Imp g Γ 26 (xi_psh (.int (0)) 27) from xs_iconst hΓ dJ10_copyOf_3_26 (by decide)) ?_
    refine xw_ald (show xm_Imp g Γ 27 (xi_ald 3 28) from xs_aload_n hΓ dJ10_copyOf_3_27) rfl ?_
    refine xw_psh (v := (.int (0))) (show xm_Imp g Γ 28 (xi_psh (.int (0)) 29) from xs_iconst hΓ dJ10_copyOf_3_28 (by decide)) ?_
    refine xw_aldo (x := p0) (show xm_Imp g Γ 29 (xi_ald 0 30) from xs_aload_n hΓ dJ10_copyOf_3_29) rfl ?_
    obtain ⟨a6, ha6, e⟩ := e
    obtain ⟨v7, e1, e⟩ := e
    refine xw_hlen (o := p0) (show xm_Imp g Γ 30 (xi_len 31) from xs_len hG hΓ dJ10_copyOf_3_30) ha6 e1 ?_
    refine xw_ild (show xm_Imp g Γ 31 (xi_ild 1 32) from xs_iload_n hΓ dJ10_copyOf_3_31) rfl ?_
    refine xw_mm (show xm_Imp g Γ 32 (xi_mm (fun x y => if y < x then y else x) 35) from xs_mmin hG hΓ rfl q455 dJ10_copyOf_3_32) (by simp [xm_stk, xv_cat, xc_int, xc_long, xc_float, xc_double, xc_ref]) ?_
    obtain ⟨h8, e1, e⟩ := e
    refine xw_cpq (o := p0) (o1 := (some a1)) (show xm_Imp g Γ 35 (xi_cpq "java/lang/Object" 38) from xs_cpq hG hΓ rfl q458 dJ10_copyOf_3_35) ha6 rfl rfl e1 ?_
    refine xw_ald (show xm_Imp g Γ 38 (xi_ald 3 39) from xs_aload_n hΓ dJ10_copyOf_3_38) rfl ?_
    exact xw_aret (show xm_Imp g Γ 39 (xi_aret _) from xs_areturn hΓ rfl (Or.inr ⟨_, rfl⟩) dJ10_copyOf_3_39) ⟨_, rfl, e⟩
  · rw [if_neg c] at e
    refine xw_aldo (x := p2) (show xm_Imp g Γ 13 (xi_ald 2 14) from xs_aload_n hΓ dJ10_copyOf_3_13) rfl ?_
    exact e.elim
