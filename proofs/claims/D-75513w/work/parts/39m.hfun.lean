/-! METHODS ON KNOWN CELLS as functions (printed by gen/mkhfun.py) -/
set_option maxRecDepth 100000
noncomputable def F_J29_init (g : xm_G) (p0 : Nat) (p1 : Int32) (p2 : Option Nat) (p3 : Option Nat) (p4 : Option Nat) (h : xm_H) : Option (xm_H) :=
 xo_b (xh_w [(19, 0), (20, 0)] h p0 (.int p1)) (fun h1 =>
 xo_b (xh_w [(19, 1), (20, 1)] h1 p0 (va_rf p2)) (fun h2 =>
 xo_b (xh_w [(19, 2), (20, 2)] h2 p0 (va_rf p3)) (fun h3 =>
 xo_b (xh_w [(19, 3), (20, 3)] h3 p0 (va_rf p4)) (fun h4 =>
 some h4))))
set_option maxHeartbeats 4000000 in
theorem K_J29_init {g : xm_G} (hG : xm_Gw g) (p0 : Nat) (p1 : Int32) (p2 : Option Nat) (p3 : Option Nat) (p4 : Option Nat) (h : xm_H) {o : xm_H} (e : F_J29_init g p0 p1 p2 p3 p4 h = some o) {Q : xm_P} {X : xm_X} (hQ : Q none o) : xm_Run g M_J29_init 2 [.ref p0, .int p1, va_rf p2, va_rf p3, va_rf p4] h 0 0 Q X := by
  refine xm_Run.of2 (ls := [some (.ref p0), some (.int p1), some (va_rf p2), some (va_rf p3), some (va_rf p4)]) pn_java_util_HashMap_Node (by cases p2 <;> cases p3 <;> cases p4 <;> exact Nat.le_of_ble_eq_true rfl) (by cases p2 <;> cases p3 <;> cases p4 <;> rfl) (fun Γ hΓ => ?_)
  obtain ⟨P0, hP0, hp⟩ : ∃ P : xm_H → Prop, (∀ o, P o → Q none o) ∧ P o := ⟨fun o => Q none o, fun _ h => h, hQ⟩
  clear hQ
  show xm_W g Γ 0 [some (.ref p0), some (.int p1), some (va_rf p2), some (va_rf p3), some (va_rf p4)] [] h 0 0
  unfold F_J29_init at e
  refine xw_ald (show xm_Imp g Γ 0 (xi_ald 0 1) from xs_aload_n hΓ dJ29_init_0) rfl ?_
  refine xw_obj (o := some p0) (show xm_Imp g Γ 1 (xi_obj 4) from xs_obj hG hΓ rfl q2319 dJ29_init_1) rfl rfl ?_
  refine xw_ald (show xm_Imp g Γ 4 (xi_ald 0 5) from xs_aload_n hΓ dJ29_init_4) rfl ?_
  refine xw_ild (show xm_Imp g Γ 5 (xi_ild 1 6) from xs_iload_n hΓ dJ29_init_5) rfl ?_
  obtain ⟨h1, e1, e⟩ := xo_b_s e
  refine xw_pt2 (o := (some p0)) (xm_or1 (show xm_Imp g Γ 6 (xi_or (xi_put 19 0 (.int) 9) (xi_put 20 0 (.int) 9)) from xs_or (xs_putF hG hΓ (ci := 19) (kf := 0) rfl (Nat.le_of_ble_eq_true rfl) rfl rfl rfl (by decide +kernel) q2322 dJ29_init_6) (xs_putF hG hΓ (ci := 20) (kf := 0) rfl (Nat.le_of_ble_eq_true rfl) rfl rfl rfl (by decide +kernel) q2322 dJ29_init_6))) (xm_or2 (show xm_Imp g Γ 6 (xi_or (xi_put 19 0 (.int) 9) (xi_put 20 0 (.int) 9)) from xs_or (xs_putF hG hΓ (ci := 19) (kf := 0) rfl (Nat.le_of_ble_eq_true rfl) rfl rfl rfl (by decide +kernel) q2322 dJ29_init_6) (xs_putF hG hΓ (ci := 20) (kf := 0) rfl (Nat.le_of_ble_eq_true rfl) rfl rfl rfl (by decide +kernel) q2322 dJ29_init_6))) rfl (xf_int _) e1 ?_
  refine xw_ald (show xm_Imp g Γ 9 (xi_ald 0 10) from xs_aload_n hΓ dJ29_init_9) rfl ?_
  refine xw_aldo (x := p2) (show xm_Imp g Γ 10 (xi_ald 2 11) from xs_aload_n hΓ dJ29_init_10) rfl ?_
  obtain ⟨h2, e1, e⟩ := xo_b_s e
  refine xw_pt2 (o := (some p0)) (xm_or1 (show xm_Imp g Γ 11 (xi_or (xi_put 19 1 (.object "java/lang/Object") 14) (xi_put 20 1 (.object "java/lang/Object") 14)) from xs_or (xs_putF hG hΓ (ci := 19) (kf := 1) rfl (Nat.le_of_ble_eq_true rfl) rfl rfl rfl (by decide +kernel) q2328 dJ29_init_11) (xs_putF hG hΓ (ci := 20) (kf := 1) rfl (Nat.le_of_ble_eq_true rfl) rfl rfl rfl (by decide +kernel) q2328 dJ29_init_11))) (xm_or2 (show xm_Imp g Γ 11 (xi_or (xi_put 19 1 (.object "java/lang/Object") 14) (xi_put 20 1 (.object "java/lang/Object") 14)) from xs_or (xs_putF hG hΓ (ci := 19) (kf := 1) rfl (Nat.le_of_ble_eq_true rfl) rfl rfl rfl (by decide +kernel) q2328 dJ29_init_11) (xs_putF hG hΓ (ci := 20) (kf := 1) rfl (Nat.le_of_ble_eq_true rfl) rfl rfl rfl (by decide +kernel) q2328 dJ29_init_11))) rfl (xv_fit (Or.inl ⟨_, rfl⟩) p2) e1 ?_
  refine xw_ald (show xm_Imp g Γ 14 (xi_ald 0 15) from xs_aload_n hΓ dJ29_init_14) rfl ?_
  refine xw_aldo (x := p3) (show xm_Imp g Γ 15 (xi_ald 3 16) from xs_aload_n hΓ dJ29_init_15) rfl ?_
  obtain ⟨h3, e1, e⟩ := xo_b_s e
  refine xw_pt2 (o := (some p0)) (xm_or1 (show xm_Imp g Γ 16 (xi_or (xi_put 19 2 (.object "java/lang/Object") 19) (xi_put 20 2 (.object "java/lang/Object") 19)) from xs_or (xs_put hG hΓ (ci := 19) (kf := 2) rfl (Nat.le_of_ble_eq_true rfl) rfl (by decide +kernel) q2334 dJ29_init_16) (xs_put hG hΓ (ci := 20) (kf := 2) rfl (Nat.le_of_ble_eq_true rfl) rfl (by decide +kernel) q2334 dJ29_init_16))) (xm_or2 (show xm_Imp g Γ 16 (xi_or (xi_put 19 2 (.object "java/lang/Object") 19) (xi_put 20 2 (.object "java/lang/Object") 19)) from xs_or (xs_put hG hΓ (ci := 19) (kf := 2) rfl (Nat.le_of_ble_eq_true rfl) rfl (by decide +kernel) q2334 dJ29_init_16) (xs_put hG hΓ (ci := 20) (kf := 2) rfl (Nat.le_of_ble_eq_true rfl) rfl (by decide +kernel) q2334 dJ29_init_16))) rfl (xv_fit (Or.inl ⟨_, rfl⟩) p3) e1 ?_
  refine xw_ald (show xm_Imp g Γ 19 (xi_ald 0 20) from xs_aload_n hΓ dJ29_init_19) rfl ?_
  refine xw_aldo (x := p4) (show xm_Imp g Γ 20 (xi_ald 4 22) from xs_aload hΓ dJ29_init_20) rfl ?_
  obtain ⟨h4, e1, e⟩ := xo_b_s e
  refine xw_pt2 (o := (some p0)) (xm_or1 (show xm_Imp g Γ 22 (xi_or (xi_put 19 3 (.object "java/util/HashMap$Node") 25) (xi_put 20 3 (.object "java/util/HashMap$Node") 25)) from xs_or (xs_put hG hΓ (ci := 19) (kf := 3) rfl (Nat.le_of_ble_eq_true rfl) rfl (by decide +kernel) q2339 dJ29_init_22) (xs_put hG hΓ (ci := 20) (kf := 3) rfl (Nat.le_of_ble_eq_true rfl) rfl (by decide +kernel) q2339 dJ29_init_22))) (xm_or2 (show xm_Imp g Γ 22 (xi_or (xi_put 19 3 (.object "java/util/HashMap$Node") 25) (xi_put 20 3 (.object "java/util/HashMap$Node") 25)) from xs_or (xs_put hG hΓ (ci := 19) (kf := 3) rfl (Nat.le_of_ble_eq_true rfl) rfl (by decide +kernel) q2339 dJ29_init_22) (xs_put hG hΓ (ci := 20) (kf := 3) rfl (Nat.le_of_ble_eq_true rfl) rfl (by decide +kernel) q2339 dJ29_init_22))) rfl (xv_fit (Or.inl ⟨_, rfl⟩) p4) e1 ?_
  exact xw_vret (show xm_Imp g Γ 25 (xi_vret _) from xs_return hΓ rfl dJ29_init_25) (hP0 _ (xl_fin e hp))
noncomputable def F_J26_newNode (g : xm_G) (p0 : Nat) (p1 : Int32) (p2 : Option Nat) (p3 : Option Nat) (p4 : Option Nat) (h : xm_H) (bc : Nat) (bs : Nat) (Q : Option Nat → xm_H → Prop) : Prop :=
 xt_new h bc bs 4 (.inr (19, [.int 0, .null, .null, .null])) (fun a1 h2 b3 b4 =>
 xt_b (F_J29_init g a1 p1 p2 p3 p4 h2) (fun v5 =>
 Q (some a1) v5))
set_option maxHeartbeats 4000000 in
theorem K_J26_newNode {g : xm_G} (hG : xm_Gw g) (p0 : Nat) (p1 : Int32) (p2 : Option Nat) (p3 : Option Nat) (p4 : Option Nat) (h : xm_H) (bc : Nat) (bs : Nat) {Q : Option Nat → xm_H → Prop} (e : F_J26_newNode g p0 p1 p2 p3 p4 h bc bs Q) : xm_Run g M_J26_newNode 3 [.ref p0, .int p1, va_rf p2, va_rf p3, va_rf p4] h bc bs (fun v h' => ∃ r, v = some (va_rf r) ∧ Q r h') xm_no := by
  refine xm_Run.of2 (ls := [some (.ref p0), some (.int p1), some (va_rf p2), some (va_rf p3), some (va_rf p4)]) pn_java_util_HashMap (by cases p2 <;> cases p3 <;> cases p4 <;> exact Nat.le_of_ble_eq_true rfl) (by cases p2 <;> cases p3 <;> cases p4 <;> rfl) (fun Γ hΓ => ?_)
  show xm_W g Γ 0 [some (.ref p0), some (.int p1), some (va_rf p2), some (va_rf p3), some (va_rf p4)] [] h bc bs
  unfold F_J26_newNode at e
  refine xw_new (show xm_Imp g Γ 0 (xi_new 19 4 [.int 0, .null, .null, .null] 3) from xs_new hG hΓ (ci := 19) rfl q2292 q2363 q164 rfl tyJ29 tyJ29_ok (xm_df 4 (by decide +kernel)) dJ26_newNode_0) e (fun a1 h2 b3 b4 e => ?_)
  refine xw_dup (show xm_Imp g Γ 3 (xi_dup 4) from xs_dup hΓ dJ26_newNode_3) rfl ?_
  refine xw_ild (show xm_Imp g Γ 4 (xi_ild 1 5) from xs_iload_n hΓ dJ26_newNode_4) rfl ?_
  refine xw_aldo (x := p2) (show xm_Imp g Γ 5 (xi_ald 2 6) from xs_aload_n hΓ dJ26_newNode_5) rfl ?_
  refine xw_aldo (x := p3) (show xm_Imp g Γ 6 (xi_ald 3 7) from xs_aload_n hΓ dJ26_newNode_6) rfl ?_
  refine xw_aldo (x := p4) (show xm_Imp g Γ 7 (xi_ald 4 9) from xs_aload hΓ dJ26_newNode_7) rfl ?_
  obtain ⟨v5, e1, e⟩ := e
  refine xw_pu4 (o := (some a1)) (show xm_Imp g Γ 9 (xi_spe g M_J29_init 2 4 12) from xs_invI hG hΓ k_J29_init rfl q2364 q2317 rfl dJ26_newNode_9) rfl rfl (fun Q X hQ => K_J29_init hG a1 p1 p2 p3 p4 _ e1 hQ) ?_
  exact xw_aret (show xm_Imp g Γ 12 (xi_aret _) from xs_areturn hΓ rfl (Or.inl ⟨_, rfl⟩) dJ26_newNode_12) ⟨_, rfl, e⟩
noncomputable def F_J30_init (g : xm_G) (p0 : Nat) (p1 : Int32) (p2 : Option Nat) (p3 : Option Nat) (p4 : Option Nat) (h : xm_H) : Option (xm_H) :=
 xo_b (F_J29_init g p0 p1 p2 p3 p4 h) (fun v1 =>
 some v1)
set_option maxHeartbeats 4000000 in
theorem K_J30_init {g : xm_G} (hG : xm_Gw g) (p0 : Nat) (p1 : Int32) (p2 : Option Nat) (p3 : Option Nat) (p4 : Option Nat) (h : xm_H) {o : xm_H} (e : F_J30_init g p0 p1 p2 p3 p4 h = some o) {Q : xm_P} {X : xm_X} (hQ : Q none o) : xm_Run g M_J30_init 3 [.ref p0, .int p1, va_rf p2, va_rf p3, va_rf p4] h 0 0 Q X := by
  refine xm_Run.of2 (ls := [some (.ref p0), some (.int p1), some (va_rf p2), some (va_rf p3), some (va_rf p4)]) pn_java_util_LinkedHashMap_Entry (by cases p2 <;> cases p3 <;> cases p4 <;> exact Nat.le_of_ble_eq_true rfl) (by cases p2 <;> cases p3 <;> cases p4 <;> rfl) (fun Γ hΓ => ?_)
  obtain ⟨P0, hP0, hp⟩ : ∃ P : xm_H → Prop, (∀ o, P o → Q none o) ∧ P o := ⟨fun o => Q none o, fun _ h => h, hQ⟩
  clear hQ
  show xm_W g Γ 0 [some (.ref p0), some (.int p1), some (va_rf p2), some (va_rf p3), some (va_rf p4)] [] h 0 0
  unfold F_J30_init at e
  refine xw_ald (show xm_Imp g Γ 0 (xi_ald 0 1) from xs_aload_n hΓ dJ30_init_0) rfl ?_
  refine xw_ild (show xm_Imp g Γ 1 (xi_ild 1 2) from xs_iload_n hΓ dJ30_init_1) rfl ?_
  refine xw_aldo (x := p2) (show xm_Imp g Γ 2 (xi_ald 2 3) from xs_aload_n hΓ dJ30_init_2) rfl ?_
  refine xw_aldo (x := p3) (show xm_Imp g Γ 3 (xi_ald 3 4) from xs_aload_n hΓ dJ30_init_3) rfl ?_
  refine xw_aldo (x := p4) (show xm_Imp g Γ 4 (xi_ald 4 6) from xs_aload hΓ dJ30_init_4) rfl ?_
  obtain ⟨v1, e1, e⟩ := xo_b_s e
  refine xw_pu4 (o := (some p0)) (show xm_Imp g Γ 6 (xi_spe g M_J29_init 2 4 9) from xs_invI hG hΓ k_J29_init rfl q2316 q2317 rfl dJ30_init_6) rfl rfl (fun Q X hQ => K_J29_init hG p0 p1 p2 p3 p4 _ e1 hQ) ?_
  exact xw_vret (show xm_Imp g Γ 9 (xi_vret _) from xs_return hΓ rfl dJ30_init_9) (hP0 _ (xl_fin e hp))
noncomputable def B_J27_linkNodeAtEnd_40 (g : xm_G) (h : xm_H) : Option (xm_H) :=
 some h
noncomputable def F_J27_linkNodeAtEnd (g : xm_G) (p0 : Nat) (p1 : Option Nat) (h : xm_H) : Option (xm_H) :=
 xo_b (xh_fi [(18, 11)] h p0) (fun v1 =>
 (if v1 = (1 : Int32) then
 xo_b (xh_fr [(18, 8)] h p0) (fun v2 =>
 xo_b (xh_w [(18, 8)] h p0 (va_rf p1)) (fun h3 =>
 (if v2 = none then
 xo_b (xh_w [(18, 9)] h3 p0 (va_rf p1)) (fun h4 =>
 B_J27_linkNodeAtEnd_40 g h4) else
 xo_b p1 (fun a5 =>
 xo_b (xh_w [(20, 5)] h3 a5 (va_rf v2)) (fun h6 =>
 xo_b v2 (fun a7 =>
 xo_b (xh_w [(20, 4)] h6 a7 (va_rf p1)) (fun h8 =>
 B_J27_linkNodeAtEnd_40 g h8))))))) else
 xo_b (xh_fr [(18, 9)] h p0) (fun v9 =>
 xo_b (xh_w [(18, 9)] h p0 (va_rf p1)) (fun h10 =>
 (if v9 = none then
 xo_b (xh_w [(18, 8)] h10 p0 (va_rf p1)) (fun h11 =>
 some h11) else
 xo_b p1 (fun a12 =>
 xo_b (xh_w [(20, 4)] h10 a12 (va_rf v9)) (fun h13 =>
 xo_b v9 (fun a14 =>
 xo_b (xh_w [(20, 5)] h13 a14 (va_rf p1)) (fun h15 =>
 some h15)))))))))
set_option maxHeartbeats 4000000 in
theorem K_J27_linkNodeAtEnd {g : xm_G} (hG : xm_Gw g) (p0 : Nat) (p1 : Option Nat) (h : xm_H) {o : xm_H} (e : F_J27_linkNodeAtEnd g p0 p1 h = some o) {Q : xm_P} {X : xm_X} (hQ : Q none o) : xm_Run g M_J27_linkNodeAtEnd 1 [.ref p0, va_rf p1] h 0 0 Q X := by
  refine xm_Run.of2 (ls := [some (.ref p0), some (va_rf p1), none]) pn_java_util_LinkedHashMap (by cases p1 <;> exact Nat.le_of_ble_eq_true rfl) (by cases p1 <;> rfl) (fun Γ hΓ => ?_)
  obtain ⟨P0, hP0, hp⟩ : ∃ P : xm_H → Prop, (∀ o, P o → Q none o) ∧ P o := ⟨fun o => Q none o, fun _ h => h, hQ⟩
  clear hQ
  show xm_W g Γ 0 [some (.ref p0), some (va_rf p1), none] [] h 0 0
  have hB_40 : ∀ (h : xm_H) (o : xm_H), B_J27_linkNodeAtEnd_40 g h = some o → P0 o → xm_W g Γ 40 [none, none, none] [] h 0 0 := by
    intro h o e hp
    unfold B_J27_linkNodeAtEnd_40 at e
    refine xw_goto (show xm_Imp g Γ 40 (xi_goto 75) from xs_goto hΓ dJ27_linkNodeAtEnd_40 (by decide)) ?_
    exact xw_vret (show xm_Imp g Γ 75 (xi_vret _) from xs_return hΓ rfl dJ27_linkNodeAtEnd_75) (hP0 _ (xl_fin e hp))
  unfold F_J27_linkNodeAtEnd at e
  refine xw_ald (show xm_Imp g Γ 0 (xi_ald 0 1) from xs_aload_n hΓ dJ27_linkNodeAtEnd_0) rfl ?_
  obtain ⟨v1, e1, e⟩ := xo_b_s e
  refine xw_gi1 (o := (some p0)) (show xm_Imp g Γ 1 (xi_get 18 11 4) from xs_get hG hΓ (ci := 18) (kf := 11) rfl (Nat.le_of_ble_eq_true rfl) q2173 dJ27_linkNodeAtEnd_1) rfl e1 ?_
  refine xw_psh (v := (.int (1))) (show xm_Imp g Γ 4 (xi_psh (.int (1)) 5) from xs_iconst hΓ dJ27_linkNodeAtEnd_4 (by decide)) ?_
  refine xw_ic (show xm_Imp g Γ 5 (xi_ic (fun x y => x = y) 8 43) from xs_icmp_ne hΓ dJ27_linkNodeAtEnd_5 (by decide)) (fun c => ?_) (fun c => ?_)
  · rw [if_pos c] at e
    refine xw_ald (show xm_Imp g Γ 8 (xi_ald 0 9) from xs_aload_n hΓ dJ27_linkNodeAtEnd_8) rfl ?_
    obtain ⟨v2, e1, e⟩ := xo_b_s e
    refine xw_gr1 (o := (some p0)) (show xm_Imp g Γ 9 (xi_get 18 8 12) from xs_get hG hΓ (ci := 18) (kf := 8) rfl (Nat.le_of_ble_eq_true rfl) q2170 dJ27_linkNodeAtEnd_9) rfl e1 ?_
    refine xw_asto (x := v2) (ls' := [some (.ref p0), some (va_rf p1), some (va_rf v2)]) (show xm_Imp g Γ 12 (xi_ast 2 13) from xs_astore_n hΓ dJ27_linkNodeAtEnd_12 (Nat.le_of_ble_eq_true rfl)) ((xm_s1_o (o := p1) rfl).trans rfl) ?_
    refine xw_ald (show xm_Imp g Γ 13 (xi_ald 0 14) from xs_aload_n hΓ dJ27_linkNodeAtEnd_13) rfl ?_
    refine xw_aldo (x := p1) (show xm_Imp g Γ 14 (xi_ald 1 15) from xs_aload_n hΓ dJ27_linkNodeAtEnd_14) rfl ?_
    obtain ⟨h3, e1, e⟩ := xo_b_s e
    refine xw_pt1 (o := (some p0)) (show xm_Imp g Γ 15 (xi_put 18 8 (.object "java/util/LinkedHashMap$Entry") 18) from xs_put hG hΓ (ci := 18) (kf := 8) rfl (Nat.le_of_ble_eq_true rfl) rfl (by decide +kernel) q2170 dJ27_linkNodeAtEnd_15) rfl (xv_fit (Or.inl ⟨_, rfl⟩) p1) e1 ?_
    refine xw_aldo (x := v2) (show xm_Imp g Γ 18 (xi_ald 2 19) from xs_aload_n hΓ dJ27_linkNodeAtEnd_18) rfl ?_
    refine xw_nul (o := v2) (show xm_Imp g Γ 19 (xi_nul 22 30) from xs_ifnonnull hΓ dJ27_linkNodeAtEnd_19 (by decide)) (fun c => ?_) (fun c => ?_)
    · rw [if_pos c] at e
      refine xw_ald (show xm_Imp g Γ 22 (xi_ald 0 23) from xs_aload_n hΓ dJ27_linkNodeAtEnd_22) rfl ?_
      refine xw_aldo (x := p1) (show xm_Imp g Γ 23 (xi_ald 1 24) from xs_aload_n hΓ dJ27_linkNodeAtEnd_23) rfl ?_
      obtain ⟨h4, e1, e⟩ := xo_b_s e
      refine xw_pt1 (o := (some p0)) (show xm_Imp g Γ 24 (xi_put 18 9 (.object "java/util/LinkedHashMap$Entry") 27) from xs_put hG hΓ (ci := 18) (kf := 9) rfl (Nat.le_of_ble_eq_true rfl) rfl (by decide +kernel) q2171 dJ27_linkNodeAtEnd_24) rfl (xv_fit (Or.inl ⟨_, rfl⟩) p1) e1 ?_
      refine xw_goto (show xm_Imp g Γ 27 (xi_goto 40) from xs_goto hΓ dJ27_linkNodeAtEnd_27 (by decide)) ?_
      exact xm_lx (hB_40 _ _ e hp) (trivial)
    · rw [if_neg c] at e
      refine xw_aldo (x := p1) (show xm_Imp g Γ 30 (xi_ald 1 31) from xs_aload_n hΓ dJ27_linkNodeAtEnd_30) rfl ?_
      refine xw_aldo (x := v2) (show xm_Imp g Γ 31 (xi_ald 2 32) from xs_aload_n hΓ dJ27_linkNodeAtEnd_31) rfl ?_
      obtain ⟨a5, ha5, e⟩ := xo_b_s e
      obtain ⟨h6, e1, e⟩ := xo_b_s e
      refine xw_pt1 (o := p1) (show xm_Imp g Γ 32 (xi_put 20 5 (.object "java/util/LinkedHashMap$Entry") 35) from xs_put hG hΓ (ci := 20) (kf := 5) rfl (Nat.le_of_ble_eq_true rfl) rfl (by decide +kernel) q2321 dJ27_linkNodeAtEnd_32) ha5 (xv_fit (Or.inl ⟨_, rfl⟩) v2) e1 ?_
      refine xw_aldo (x := v2) (show xm_Imp g Γ 35 (xi_ald 2 36) from xs_aload_n hΓ dJ27_linkNodeAtEnd_35) rfl ?_
      refine xw_aldo (x := p1) (show xm_Imp g Γ 36 (xi_ald 1 37) from xs_aload_n hΓ dJ27_linkNodeAtEnd_36) rfl ?_
      obtain ⟨a7, ha7, e⟩ := xo_b_s e
      obtain ⟨h8, e1, e⟩ := xo_b_s e
      refine xw_pt1 (o := v2) (show xm_Imp g Γ 37 (xi_put 20 4 (.object "java/util/LinkedHashMap$Entry") 40) from xs_put hG hΓ (ci := 20) (kf := 4) rfl (Nat.le_of_ble_eq_true rfl) rfl (by decide +kernel) q2320 dJ27_linkNodeAtEnd_37) ha7 (xv_fit (Or.inl ⟨_, rfl⟩) p1) e1 ?_
      exact xm_lx (hB_40 _ _ e hp) (trivial)
  · rw [if_neg c] at e
    refine xw_ald (show xm_Imp g Γ 43 (xi_ald 0 44) from xs_aload_n hΓ dJ27_linkNodeAtEnd_43) rfl ?_
    obtain ⟨v9, e1, e⟩ := xo_b_s e
    refine xw_gr1 (o := (some p0)) (show xm_Imp g Γ 44 (xi_get 18 9 47) from xs_get hG hΓ (ci := 18) (kf := 9) rfl (Nat.le_of_ble_eq_true rfl) q2171 dJ27_linkNodeAtEnd_44) rfl e1 ?_
    refine xw_asto (x := v9) (ls' := [some (.ref p0), some (va_rf p1), some (va_rf v9)]) (show xm_Imp g Γ 47 (xi_ast 2 48) from xs_astore_n hΓ dJ27_linkNodeAtEnd_47 (Nat.le_of_ble_eq_true rfl)) ((xm_s1_o (o := p1) rfl).trans rfl) ?_
    refine xw_ald (show xm_Imp g Γ 48 (xi_ald 0 49) from xs_aload_n hΓ dJ27_linkNodeAtEnd_48) rfl ?_
    refine xw_aldo (x := p1) (show xm_Imp g Γ 49 (xi_ald 1 50) from xs_aload_n hΓ dJ27_linkNodeAtEnd_49) rfl ?_
    obtain ⟨h10, e1, e⟩ := xo_b_s e
    refine xw_pt1 (o := (some p0)) (show xm_Imp g Γ 50 (xi_put 18 9 (.object "java/util/LinkedHashMap$Entry") 53) from xs_put hG hΓ (ci := 18) (kf := 9) rfl (Nat.le_of_ble_eq_true rfl) rfl (by decide +kernel) q2171 dJ27_linkNodeAtEnd_50) rfl (xv_fit (Or.inl ⟨_, rfl⟩) p1) e1 ?_
    refine xw_aldo (x := v9) (show xm_Imp g Γ 53 (xi_ald 2 54) from xs_aload_n hΓ dJ27_linkNodeAtEnd_53) rfl ?_
    refine xw_nul (o := v9) (show xm_Imp g Γ 54 (xi_nul 57 65) from xs_ifnonnull hΓ dJ27_linkNodeAtEnd_54 (by decide)) (fun c => ?_) (fun c => ?_)
    · rw [if_pos c] at e
      refine xw_ald (show xm_Imp g Γ 57 (xi_ald 0 58) from xs_aload_n hΓ dJ27_linkNodeAtEnd_57) rfl ?_
      refine xw_aldo (x := p1) (show xm_Imp g Γ 58 (xi_ald 1 59) from xs_aload_n hΓ dJ27_linkNodeAtEnd_58) rfl ?_
      obtain ⟨h11, e1, e⟩ := xo_b_s e
      refine xw_pt1 (o := (some p0)) (show xm_Imp g Γ 59 (xi_put 18 8 (.object "java/util/LinkedHashMap$Entry") 62) from xs_put hG hΓ (ci := 18) (kf := 8) rfl (Nat.le_of_ble_eq_true rfl) rfl (by decide +kernel) q2170 dJ27_linkNodeAtEnd_59) rfl (xv_fit (Or.inl ⟨_, rfl⟩) p1) e1 ?_
      refine xw_goto (show xm_Imp g Γ 62 (xi_goto 75) from xs_goto hΓ dJ27_linkNodeAtEnd_62 (by decide)) ?_
      exact xw_vret (show xm_Imp g Γ 75 (xi_vret _) from xs_return hΓ rfl dJ27_linkNodeAtEnd_75) (hP0 _ (xl_fin e hp))
    · rw [if_neg c] at e
      refine xw_aldo (x := p1) (show xm_Imp g Γ 65 (xi_ald 1 66) from xs_aload_n hΓ dJ27_linkNodeAtEnd_65) rfl ?_
      refine xw_aldo (x := v9) (show xm_Imp g Γ 66 (xi_ald 2 67) from xs_aload_n hΓ dJ27_linkNodeAtEnd_66) rfl ?_
      obtain ⟨a12, ha12, e⟩ := xo_b_s e
      obtain ⟨h13, e1, e⟩ := xo_b_s e
      refine xw_pt1 (o := p1) (show xm_Imp g Γ 67 (xi_put 20 4 (.object "java/util/LinkedHashMap$Entry") 70) from xs_put hG hΓ (ci := 20) (kf := 4) rfl (Nat.le_of_ble_eq_true rfl) rfl (by decide +kernel) q2320 dJ27_linkNodeAtEnd_67) ha12 (xv_fit (Or.inl ⟨_, rfl⟩) v9) e1 ?_
      refine xw_aldo (x := v9) (show xm_Imp g Γ 70 (xi_ald 2 71) from xs_aload_n hΓ dJ27_linkNodeAtEnd_70) rfl ?_
      refine xw_aldo (x := p1) (show xm_Imp g Γ 71 (xi_ald 1 72) from xs_aload_n hΓ dJ27_linkNodeAtEnd_71) rfl ?_
      obtain ⟨a14, ha14, e⟩ := xo_b_s e
      obtain ⟨h15, e1, e⟩ := xo_b_s e
      refine xw_pt1 (o := v9) (show xm_Imp g Γ 72 (xi_put 20 5 (.object "java/util/LinkedHashMap$Entry") 75) from xs_put hG hΓ (ci := 20) (kf := 5) rfl (Nat.le_of_ble_eq_true rfl) rfl (by decide +kernel) q2321 dJ27_linkNodeAtEnd_72) ha14 (xv_fit (Or.inl ⟨_, rfl⟩) p1) e1 ?_
      exact xw_vret (show xm_Imp g Γ 75 (xi_vret _) from xs_return hΓ rfl dJ27_linkNodeAtEnd_75) (hP0 _ (xl_fin e hp))
noncomputable def F_J27_newNode (g : xm_G) (p0 : Nat) (p1 : Int32) (p2 : Option Nat) (p3 : Option Nat) (p4 : Option Nat) (h : xm_H) (bc : Nat) (bs : Nat) (Q : Option Nat → xm_H → Prop) : Prop :=
 xt_new h bc bs 6 (.inr (20, [.int 0, .null, .null, .null, .null, .null])) (fun a1 h2 b3 b4 =>
 xt_b (F_J30_init g a1 p1 p2 p3 p4 h2) (fun v5 =>
 xt_b (xh_is 18 v5 p0) (fun _ =>
 xt_b (F_J27_linkNodeAtEnd g p0 (some a1) v5) (fun v6 =>
 Q (some a1) v6))))
set_option maxHeartbeats 4000000 in
theorem K_J27_newNode {g : xm_G} (hG : xm_Gw g) (p0 : Nat) (p1 : Int32) (p2 : Option Nat) (p3 : Option Nat) (p4 : Option Nat) (h : xm_H) (bc : Nat) (bs : Nat) {Q : Option Nat → xm_H → Prop} (e : F_J27_newNode g p0 p1 p2 p3 p4 h bc bs Q) : xm_Run g M_J27_newNode 4 [.ref p0, .int p1, va_rf p2, va_rf p3, va_rf p4] h bc bs (fun v h' => ∃ r, v = some (va_rf r) ∧ Q r h') xm_no := by
  refine xm_Run.of2 (ls := [some (.ref p0), some (.int p1), some (va_rf p2), some (va_rf p3), some (va_rf p4), none]) pn_java_util_LinkedHashMap (by cases p2 <;> cases p3 <;> cases p4 <;> exact Nat.le_of_ble_eq_true rfl) (by cases p2 <;> cases p3 <;> cases p4 <;> rfl) (fun Γ hΓ => ?_)
  show xm_W g Γ 0 [some (.ref p0), some (.int p1), some (va_rf p2), some (va_rf p3), some (va_rf p4), none] [] h bc bs
  unfold F_J27_newNode at e
  refine xw_new (show xm_Imp g Γ 0 (xi_new 20 6 [.int 0, .null, .null, .null, .null, .null] 3) from xs_new hG hΓ (ci := 20) rfl q2311 q2312 q165 rfl tyJ30 tyJ30_ok (xm_df 6 (by decide +kernel)) dJ27_newNode_0) e (fun a1 h2 b3 b4 e => ?_)
  refine xw_dup (show xm_Imp g Γ 3 (xi_dup 4) from xs_dup hΓ dJ27_newNode_3) rfl ?_
  refine xw_ild (show xm_Imp g Γ 4 (xi_ild 1 5) from xs_iload_n hΓ dJ27_newNode_4) rfl ?_
  refine xw_aldo (x := p2) (show xm_Imp g Γ 5 (xi_ald 2 6) from xs_aload_n hΓ dJ27_newNode_5) rfl ?_
  refine xw_aldo (x := p3) (show xm_Imp g Γ 6 (xi_ald 3 7) from xs_aload_n hΓ dJ27_newNode_6) rfl ?_
  refine xw_aldo (x := p4) (show xm_Imp g Γ 7 (xi_ald 4 9) from xs_aload hΓ dJ27_newNode_7) rfl ?_
  obtain ⟨v5, e1, e⟩ := e
  refine xw_pu4 (o := (some a1)) (show xm_Imp g Γ 9 (xi_spe g M_J30_init 3 4 12) from xs_invI hG hΓ k_J30_init rfl q2313 q2314 rfl dJ27_newNode_9) rfl rfl (fun Q X hQ => K_J30_init hG a1 p1 p2 p3 p4 _ e1 hQ) ?_
  refine xw_ast (ls' := [some (.ref p0), some (.int p1), some (va_rf p2), some (va_rf p3), some (va_rf p4), some (.ref a1)]) (show xm_Imp g Γ 12 (xi_ast 5 14) from xs_astore hΓ dJ27_newNode_12 (Nat.le_of_ble_eq_true rfl)) ((xm_s1_o (o := p4) rfl).trans rfl) ?_
  refine xw_ald (show xm_Imp g Γ 14 (xi_ald 0 15) from xs_aload_n hΓ dJ27_newNode_14) rfl ?_
  refine xw_ald (show xm_Imp g Γ 15 (xi_ald 5 17) from xs_aload hΓ dJ27_newNode_15) rfl ?_
  obtain ⟨_, e0, e⟩ := e
  obtain ⟨v6, e1, e⟩ := e
  refine xw_hu1 (o := (some p0)) (show xm_Imp g Γ 17 (xi_vir g 18 M_J27_linkNodeAtEnd 1 1 20) from xs_invV hG hΓ k_J27_linkNodeAtEnd rfl (ci := 18) rfl q2595 q2597 qs44 dJ27_newNode_17) rfl rfl e0 (fun Q X hQ => K_J27_linkNodeAtEnd hG p0 (some a1) _ e1 hQ) ?_
  refine xw_ald (show xm_Imp g Γ 20 (xi_ald 5 22) from xs_aload hΓ dJ27_newNode_20) rfl ?_
  exact xw_aret (show xm_Imp g Γ 22 (xi_aret _) from xs_areturn hΓ rfl (Or.inl ⟨_, rfl⟩) dJ27_newNode_22) ⟨_, rfl, e⟩
noncomputable def B_X13_equals_38 (g : xm_G) (h : xm_H) : Option (Int32) :=
 some 0
noncomputable def F_X13_equals (g : xm_G) (p0 : Nat) (p1 : Option Nat) (h : xm_H) : Option (Int32) :=
 xo_b (xh_inst "StringTableau$Word" h p1) (fun v1 =>
 (if v1 = 0 then
 B_X13_equals_38 g h else
 xo_b (xh_cast "StringTableau$Word" h p1) (fun _ =>
 xo_b p1 (fun a2 =>
 xo_b (xh_fi [(11, 0)] h a2) (fun v3 =>
 xo_b (xh_fi [(11, 0)] h p0) (fun v4 =>
 (if v3 = v4 then
 xo_b (xh_fi [(11, 1)] h a2) (fun v5 =>
 xo_b (xh_fi [(11, 1)] h p0) (fun v6 =>
 (if v5 = v6 then
 some 1 else
 B_X13_equals_38 g h))) else
 B_X13_equals_38 g h)))))))
set_option maxHeartbeats 4000000 in
theorem K_X13_equals {g : xm_G} (hG : xm_Gw g) (p0 : Nat) (p1 : Option Nat) (h : xm_H) {o : Int32} (e : F_X13_equals g p0 p1 h = some o) {Q : xm_P} {X : xm_X} (hQ : Q (some (.int o)) h) : xm_Run g M_X13_equals 1 [.ref p0, va_rf p1] h 0 0 Q X := by
  refine xm_Run.of2 (ls := [some (.ref p0), some (va_rf p1), none]) pn_StringTableau_Word (by cases p1 <;> exact Nat.le_of_ble_eq_true rfl) (by cases p1 <;> rfl) (fun Γ hΓ => ?_)
  obtain ⟨P0, hP0, hp⟩ : ∃ P : Int32 → Prop, (∀ o, P o → Q (some (.int o)) h) ∧ P o := ⟨fun o => Q (some (.int o)) h, fun _ h => h, hQ⟩
  clear hQ
  show xm_W g Γ 0 [some (.ref p0), some (va_rf p1), none] [] h 0 0
  have hB_38 : ∀  (o : Int32), B_X13_equals_38 g h = some o → P0 o → xm_W g Γ 38 [none, none, none] [] h 0 0 := by
    intro  o e hp
    unfold B_X13_equals_38 at e
    refine xw_psh (v := (.int (0))) (show xm_Imp g Γ 38 (xi_psh (.int (0)) 39) from xs_iconst hΓ dX13_equals_38 (by decide)) ?_
    have hq := hP0 _ (xl_fin e hp)
    exact xw_iret (show xm_Imp g Γ 39 (xi_iret .boolean _) from xs_ireturn hΓ rfl dX13_equals_39) rfl hq
  unfold F_X13_equals at e
  refine xw_aldo (x := p1) (show xm_Imp g Γ 0 (xi_ald 1 1) from xs_aload_n hΓ dX13_equals_0) rfl ?_
  obtain ⟨v1, e1, e⟩ := xo_b_s e
  refine xw_inst (o := p1) (show xm_Imp g Γ 1 (xi_inst "StringTableau$Word" 4) from xs_inst hG hΓ q2617 dX13_equals_1) e1 ?_
  refine xw_if (show xm_Imp g Γ 4 (xi_if (fun x => x = 0) 38 7) from xs_if_eq hΓ dX13_equals_4 (by decide)) (fun c => ?_) (fun c => ?_)
  · rw [if_pos c] at e
    exact xm_lx (hB_38 _ e hp) (trivial)
  · rw [if_neg c] at e
    refine xw_aldo (x := p1) (show xm_Imp g Γ 7 (xi_ald 1 8) from xs_aload_n hΓ dX13_equals_7) rfl ?_
    obtain ⟨_, e1, e⟩ := xo_b_s e
    refine xw_cast (o := p1) (show xm_Imp g Γ 8 (xi_cast "StringTableau$Word" 11) from xs_cast hG hΓ (xm_in 11 rfl) q2617 dX13_equals_8) e1 ?_
    refine xw_asto (x := p1) (ls' := [some (.ref p0), some (va_rf p1), some (va_rf p1)]) (show xm_Imp g Γ 11 (xi_ast 2 12) from xs_astore_n hΓ dX13_equals_11 (Nat.le_of_ble_eq_true rfl)) ((xm_s1_o (o := p1) rfl).trans rfl) ?_
    refine xw_aldo (x := p1) (show xm_Imp g Γ 12 (xi_ald 2 13) from xs_aload_n hΓ dX13_equals_12) rfl ?_
    obtain ⟨a2, ha2, e⟩ := xo_b_s e
    obtain ⟨v3, e1, e⟩ := xo_b_s e
    refine xw_gi1 (o := p1) (show xm_Imp g Γ 13 (xi_get 11 0 16) from xs_get hG hΓ (ci := 11) (kf := 0) rfl (Nat.le_of_ble_eq_true rfl) q2216 dX13_equals_13) ha2 e1 ?_
    refine xw_ald (show xm_Imp g Γ 16 (xi_ald 0 17) from xs_aload_n hΓ dX13_equals_16) rfl ?_
    obtain ⟨v4, e1, e⟩ := xo_b_s e
    refine xw_gi1 (o := (some p0)) (show xm_Imp g Γ 17 (xi_get 11 0 20) from xs_get hG hΓ (ci := 11) (kf := 0) rfl (Nat.le_of_ble_eq_true rfl) q2216 dX13_equals_17) rfl e1 ?_
    refine xw_ic (show xm_Imp g Γ 20 (xi_ic (fun x y => x = y) 23 38) from xs_icmp_ne hΓ dX13_equals_20 (by decide)) (fun c => ?_) (fun c => ?_)
    · rw [if_pos c] at e
      refine xw_aldo (x := p1) (show xm_Imp g Γ 23 (xi_ald 2 24) from xs_aload_n hΓ dX13_equals_23) rfl ?_
      obtain ⟨v5, e1, e⟩ := xo_b_s e
      refine xw_gi1 (o := p1) (show xm_Imp g Γ 24 (xi_get 11 1 27) from xs_get hG hΓ (ci := 11) (kf := 1) rfl (Nat.le_of_ble_eq_true rfl) q2217 dX13_equals_24) ha2 e1 ?_
      refine xw_ald (show xm_Imp g Γ 27 (xi_ald 0 28) from xs_aload_n hΓ dX13_equals_27) rfl ?_
      obtain ⟨v6, e1, e⟩ := xo_b_s e
      refine xw_gi1 (o := (some p0)) (show xm_Imp g Γ 28 (xi_get 11 1 31) from xs_get hG hΓ (ci := 11) (kf := 1) rfl (Nat.le_of_ble_eq_true rfl) q2217 dX13_equals_28) rfl e1 ?_
      refine xw_ic (show xm_Imp g Γ 31 (xi_ic (fun x y => x = y) 34 38) from xs_icmp_ne hΓ dX13_equals_31 (by decide)) (fun c => ?_) (fun c => ?_)
      · rw [if_pos c] at e
        refine xw_psh (v := (.int (1))) (show xm_Imp g Γ 34 (xi_psh (.int (1)) 35) from xs_iconst hΓ dX13_equals_34 (by decide)) ?_
        refine xw_goto (show xm_Imp g Γ 35 (xi_goto 39) from xs_goto hΓ dX13_equals_35 (by decide)) ?_
        have hq := hP0 _ (xl_fin e hp)
        exact xw_iret (show xm_Imp g Γ 39 (xi_iret .boolean _) from xs_ireturn hΓ rfl dX13_equals_39) rfl hq
      · rw [if_neg c] at e
        exact xm_lx (hB_38 _ e hp) (trivial)
    · rw [if_neg c] at e
      exact xm_lx (hB_38 _ e hp) (trivial)
noncomputable def F_J26_afterNodeAccess (g : xm_G) (p0 : Nat) (p1 : Option Nat) (h : xm_H) : Option (Unit) :=
 some ()
set_option maxHeartbeats 4000000 in
theorem K_J26_afterNodeAccess {g : xm_G} (hG : xm_Gw g) (p0 : Nat) (p1 : Option Nat) (h : xm_H) {o : Unit} (e : F_J26_afterNodeAccess g p0 p1 h = some o) {Q : xm_P} {X : xm_X} (hQ : Q none h) : xm_Run g M_J26_afterNodeAccess 1 [.ref p0, va_rf p1] h 0 0 Q X := by
  refine xm_Run.of2 (ls := [some (.ref p0), some (va_rf p1)]) pn_java_util_HashMap (by cases p1 <;> exact Nat.le_of_ble_eq_true rfl) (by cases p1 <;> rfl) (fun Γ hΓ => ?_)
  obtain ⟨P0, hP0, hp⟩ : ∃ P : Unit → Prop, (∀ o, P o → Q none h) ∧ P o := ⟨fun o => Q none h, fun _ h => h, hQ⟩
  clear hQ
  show xm_W g Γ 0 [some (.ref p0), some (va_rf p1)] [] h 0 0
  unfold F_J26_afterNodeAccess at e
  exact xw_vret (show xm_Imp g Γ 0 (xi_vret _) from xs_return hΓ rfl dJ26_afterNodeAccess_0) (hP0 _ (xl_fin e hp))
noncomputable def B_J27_afterNodeAccess_249 (g : xm_G) (l0 : Nat) (l4 : Option Nat) (h : xm_H) : Option (xm_H) :=
 xo_b (xh_w [(18, 8)] h l0 (va_rf l4)) (fun h11 =>
 xo_b (xh_fi [(18, 5)] h11 l0) (fun v12 =>
 xo_b (xh_w [(18, 5)] h11 l0 (.int (v12 + 1))) (fun h13 =>
 some h13)))
noncomputable def B_J27_afterNodeAccess_224 (g : xm_G) (l0 : Nat) (l3 : Option Nat) (l4 : Option Nat) (h : xm_H) : Option (xm_H) :=
 (if l3 = none then
 xo_b (xh_w [(18, 9)] h l0 (va_rf l4)) (fun h10 =>
 B_J27_afterNodeAccess_249 g l0 l4 h10) else
 xo_b l4 (fun a14 =>
 xo_b (xh_w [(20, 5)] h a14 (va_rf l3)) (fun h15 =>
 xo_b l3 (fun a16 =>
 xo_b (xh_w [(20, 4)] h15 a16 (va_rf l4)) (fun h17 =>
 B_J27_afterNodeAccess_249 g l0 l4 h17)))))
noncomputable def B_J27_afterNodeAccess_206 (g : xm_G) (l0 : Nat) (l3 : Option Nat) (l4 : Option Nat) (l5 : Option Nat) (l6 : Option Nat) (h : xm_H) : Option (xm_H) :=
 (if l5 = none then
 B_J27_afterNodeAccess_224 g l0 l6 l4 h else
 xo_b l5 (fun a18 =>
 xo_b (xh_w [(20, 5)] h a18 (va_rf l6)) (fun h19 =>
 B_J27_afterNodeAccess_224 g l0 l3 l4 h19)))
noncomputable def B_J27_afterNodeAccess_141 (g : xm_G) (l0 : Nat) (l1 : Option Nat) (h : xm_H) : Option (xm_H) :=
 xo_b (xh_fi [(18, 11)] h l0) (fun v3 =>
 (if v3 = (1 : Int32) then
 xo_b (xh_fr [(18, 8)] h l0) (fun v4 =>
 (if v4 = l1 then
 some h else
 xo_b (xh_cast "java/util/LinkedHashMap$Entry" h l1) (fun _ =>
 xo_b l1 (fun a5 =>
 xo_b (xh_fr [(20, 4)] h a5) (fun v6 =>
 xo_b (xh_fr [(20, 5)] h a5) (fun v7 =>
 xo_b (xh_w [(20, 4)] h a5 (va_rf none)) (fun h8 =>
 (if v7 = none then
 xo_b (xh_w [(18, 9)] h8 l0 (va_rf v6)) (fun h9 =>
 B_J27_afterNodeAccess_206 g l0 v4 l1 v6 v7 h9) else
 xo_b v7 (fun a20 =>
 xo_b (xh_w [(20, 4)] h8 a20 (va_rf v6)) (fun h21 =>
 B_J27_afterNodeAccess_206 g l0 v4 l1 v6 v7 h21)))))))))) else
 some h))
noncomputable def B_J27_afterNodeAccess_122 (g : xm_G) (l0 : Nat) (l4 : Option Nat) (h : xm_H) : Option (xm_H) :=
 xo_b (xh_w [(18, 9)] h l0 (va_rf l4)) (fun h28 =>
 xo_b (xh_fi [(18, 5)] h28 l0) (fun v29 =>
 xo_b (xh_w [(18, 5)] h28 l0 (.int (v29 + 1))) (fun h30 =>
 some h30)))
noncomputable def B_J27_afterNodeAccess_97 (g : xm_G) (l0 : Nat) (l2 : Option Nat) (l4 : Option Nat) (h : xm_H) : Option (xm_H) :=
 (if l2 = none then
 xo_b (xh_w [(18, 8)] h l0 (va_rf l4)) (fun h27 =>
 B_J27_afterNodeAccess_122 g l0 l4 h27) else
 xo_b l4 (fun a31 =>
 xo_b (xh_w [(20, 4)] h a31 (va_rf l2)) (fun h32 =>
 xo_b l2 (fun a33 =>
 xo_b (xh_w [(20, 5)] h32 a33 (va_rf l4)) (fun h34 =>
 B_J27_afterNodeAccess_122 g l0 l4 h34)))))
noncomputable def B_J27_afterNodeAccess_79 (g : xm_G) (l0 : Nat) (l2 : Option Nat) (l4 : Option Nat) (l5 : Option Nat) (l6 : Option Nat) (h : xm_H) : Option (xm_H) :=
 (if l6 = none then
 B_J27_afterNodeAccess_97 g l0 l5 l4 h else
 xo_b l6 (fun a35 =>
 xo_b (xh_w [(20, 4)] h a35 (va_rf l5)) (fun h36 =>
 B_J27_afterNodeAccess_97 g l0 l2 l4 h36)))
noncomputable def B_J27_afterNodeAccess_22 (g : xm_G) (l0 : Nat) (l1 : Option Nat) (h : xm_H) : Option (xm_H) :=
 xo_b (xh_fr [(18, 9)] h l0) (fun v2 =>
 (if v2 = l1 then
 B_J27_afterNodeAccess_141 g l0 l1 h else
 xo_b (xh_cast "java/util/LinkedHashMap$Entry" h l1) (fun _ =>
 xo_b l1 (fun a22 =>
 xo_b (xh_fr [(20, 4)] h a22) (fun v23 =>
 xo_b (xh_fr [(20, 5)] h a22) (fun v24 =>
 xo_b (xh_w [(20, 5)] h a22 (va_rf none)) (fun h25 =>
 (if v23 = none then
 xo_b (xh_w [(18, 8)] h25 l0 (va_rf v24)) (fun h26 =>
 B_J27_afterNodeAccess_79 g l0 v2 l1 v23 v24 h26) else
 xo_b v23 (fun a37 =>
 xo_b (xh_w [(20, 5)] h25 a37 (va_rf v24)) (fun h38 =>
 B_J27_afterNodeAccess_79 g l0 v2 l1 v23 v24 h38))))))))))
noncomputable def F_J27_afterNodeAccess (g : xm_G) (p0 : Nat) (p1 : Option Nat) (h : xm_H) : Option (xm_H) :=
 xo_b (xh_fi [(18, 11)] h p0) (fun v1 =>
 (if v1 = (2 : Int32) then
 B_J27_afterNodeAccess_22 g p0 p1 h else
 xo_b (xh_fi [(18, 11)] h p0) (fun v39 =>
 (if v39 = 0 then
 xo_b (xh_fi [(18, 10)] h p0) (fun v40 =>
 (if v40 = 0 then
 B_J27_afterNodeAccess_141 g p0 p1 h else
 B_J27_afterNodeAccess_22 g p0 p1 h)) else
 B_J27_afterNodeAccess_141 g p0 p1 h))))
set_option maxHeartbeats 4000000 in
theorem K_J27_afterNodeAccess {g : xm_G} (hG : xm_Gw g) (p0 : Nat) (p1 : Option Nat) (h : xm_H) {o : xm_H} (e : F_J27_afterNodeAccess g p0 p1 h = some o) {Q : xm_P} {X : xm_X} (hQ : Q none o) : xm_Run g M_J27_afterNodeAccess 1 [.ref p0, va_rf p1] h 0 0 Q X := by
  refine xm_Run.of2 (ls := [some (.ref p0), some (va_rf p1), none, none, none, none, none]) pn_java_util_LinkedHashMap (by cases p1 <;> exact Nat.le_of_ble_eq_true rfl) (by cases p1 <;> rfl) (fun Γ hΓ => ?_)
  obtain ⟨P0, hP0, hp⟩ : ∃ P : xm_H → Prop, (∀ o, P o → Q none o) ∧ P o := ⟨fun o => Q none o, fun _ h => h, hQ⟩
  clear hQ
  show xm_W g Γ 0 [some (.ref p0), some (va_rf p1), none, none, none, none, none] [] h 0 0
  have hB_249 : ∀ (l0 : Nat) (l4 : Option Nat) (h : xm_H) (o : xm_H), B_J27_afterNodeAccess_249 g l0 l4 h = some o → P0 o → xm_W g Γ 249 [some (.ref l0), none, none, none, some (va_rf l4), none, none] [] h 0 0 := by
    intro l0 l4 h o e hp
    unfold B_J27_afterNodeAccess_249 at e
    refine xw_ald (show xm_Imp g Γ 249 (xi_ald 0 250) from xs_aload_n hΓ dJ27_afterNodeAccess_249) rfl ?_
    refine xw_aldo (x := l4) (show xm_Imp g Γ 250 (xi_ald 4 252) from xs_aload hΓ dJ27_afterNodeAccess_250) rfl ?_
    obtain ⟨h11, e1, e⟩ := xo_b_s e
    refine xw_pt1 (o := (some l0)) (show xm_Imp g Γ 252 (xi_put 18 8 (.object "java/util/LinkedHashMap$Entry") 255) from xs_put hG hΓ (ci := 18) (kf := 8) rfl (Nat.le_of_ble_eq_true rfl) rfl (by decide +kernel) q2170 dJ27_afterNodeAccess_252) rfl (xv_fit (Or.inl ⟨_, rfl⟩) l4) e1 ?_
    refine xw_ald (show xm_Imp g Γ 255 (xi_ald 0 256) from xs_aload_n hΓ dJ27_afterNodeAccess_255) rfl ?_
    refine xw_dup (show xm_Imp g Γ 256 (xi_dup 257) from xs_dup hΓ dJ27_afterNodeAccess_256) rfl ?_
    obtain ⟨v12, e1, e⟩ := xo_b_s e
    refine xw_gi1 (o := (some l0)) (show xm_Imp g Γ 257 (xi_get 18 5 260) from xs_getS hG hΓ (ci := 18) (kf := 5) rfl (Nat.le_of_ble_eq_true rfl) q2176 q2177 dJ27_afterNodeAccess_257) rfl e1 ?_
    refine xw_psh (v := (.int (1))) (show xm_Imp g Γ 260 (xi_psh (.int (1)) 261) from xs_iconst hΓ dJ27_afterNodeAccess_260 (by decide)) ?_
    refine xw_ii (show xm_Imp g Γ 261 (xi_ii (fun x y => x + y) 262) from xs_iadd hΓ dJ27_afterNodeAccess_261) ?_
    obtain ⟨h13, e1, e⟩ := xo_b_s e
    refine xw_pt1 (o := (some l0)) (show xm_Imp g Γ 262 (xi_put 18 5 (.int) 265) from xs_putS hG hΓ (ci := 18) (kf := 5) rfl (Nat.le_of_ble_eq_true rfl) rfl (by decide +kernel) q2176 q2177 dJ27_afterNodeAccess_262) rfl (xf_int _) e1 ?_
    exact xw_vret (show xm_Imp g Γ 265 (xi_vret _) from xs_return hΓ rfl dJ27_afterNodeAccess_265) (hP0 _ (xl_fin e hp))
  have hB_224 : ∀ (l0 : Nat) (l3 : Option Nat) (l4 : Option Nat) (h : xm_H) (o : xm_H), B_J27_afterNodeAccess_224 g l0 l3 l4 h = some o → P0 o → xm_W g Γ 224 [some (.ref l0), none, none, some (va_rf l3), some (va_rf l4), none, none] [] h 0 0 := by
    intro l0 l3 l4 h o e hp
    unfold B_J27_afterNodeAccess_224 at e
    refine xw_aldo (x := l3) (show xm_Imp g Γ 224 (xi_ald 3 225) from xs_aload_n hΓ dJ27_afterNodeAccess_224) rfl ?_
    refine xw_nul (o := l3) (show xm_Imp g Γ 225 (xi_nul 228 237) from xs_ifnonnull hΓ dJ27_afterNodeAccess_225 (by decide)) (fun c => ?_) (fun c => ?_)
    · rw [if_pos c] at e
      refine xw_ald (show xm_Imp g Γ 228 (xi_ald 0 229) from xs_aload_n hΓ dJ27_afterNodeAccess_228) rfl ?_
      refine xw_aldo (x := l4) (show xm_Imp g Γ 229 (xi_ald 4 231) from xs_aload hΓ dJ27_afterNodeAccess_229) rfl ?_
      obtain ⟨h10, e1, e⟩ := xo_b_s e
      refine xw_pt1 (o := (some l0)) (show xm_Imp g Γ 231 (xi_put 18 9 (.object "java/util/LinkedHashMap$Entry") 234) from xs_put hG hΓ (ci := 18) (kf := 9) rfl (Nat.le_of_ble_eq_true rfl) rfl (by decide +kernel) q2171 dJ27_afterNodeAccess_231) rfl (xv_fit (Or.inl ⟨_, rfl⟩) l4) e1 ?_
      refine xw_goto (show xm_Imp g Γ 234 (xi_goto 249) from xs_goto hΓ dJ27_afterNodeAccess_234 (by decide)) ?_
      exact xm_lx (hB_249 _ _ _ _ e hp) (And.intro rfl (And.intro rfl (trivial)))
    · rw [if_neg c] at e
      refine xw_aldo (x := l4) (show xm_Imp g Γ 237 (xi_ald 4 239) from xs_aload hΓ dJ27_afterNodeAccess_237) rfl ?_
      refine xw_aldo (x := l3) (show xm_Imp g Γ 239 (xi_ald 3 240) from xs_aload_n hΓ dJ27_afterNodeAccess_239) rfl ?_
      obtain ⟨a14, ha14, e⟩ := xo_b_s e
      obtain ⟨h15, e1, e⟩ := xo_b_s e
      refine xw_pt1 (o := l4) (show xm_Imp g Γ 240 (xi_put 20 5 (.object "java/util/LinkedHashMap$Entry") 243) from xs_put hG hΓ (ci := 20) (kf := 5) rfl (Nat.le_of_ble_eq_true rfl) rfl (by decide +kernel) q2321 dJ27_afterNodeAccess_240) ha14 (xv_fit (Or.inl ⟨_, rfl⟩) l3) e1 ?_
      refine xw_aldo (x := l3) (show xm_Imp g Γ 243 (xi_ald 3 244) from xs_aload_n hΓ dJ27_afterNodeAccess_243) rfl ?_
      refine xw_aldo (x := l4) (show xm_Imp g Γ 244 (xi_ald 4 246) from xs_aload hΓ dJ27_afterNodeAccess_244) rfl ?_
      obtain ⟨a16, ha16, e⟩ := xo_b_s e
      obtain ⟨h17, e1, e⟩ := xo_b_s e
      refine xw_pt1 (o := l3) (show xm_Imp g Γ 246 (xi_put 20 4 (.object "java/util/LinkedHashMap$Entry") 249) from xs_put hG hΓ (ci := 20) (kf := 4) rfl (Nat.le_of_ble_eq_true rfl) rfl (by decide +kernel) q2320 dJ27_afterNodeAccess_246) ha16 (xv_fit (Or.inl ⟨_, rfl⟩) l4) e1 ?_
      exact xm_lx (hB_249 _ _ _ _ e hp) (And.intro rfl (And.intro rfl (trivial)))
  have hB_206 : ∀ (l0 : Nat) (l3 : Option Nat) (l4 : Option Nat) (l5 : Option Nat) (l6 : Option Nat) (h : xm_H) (o : xm_H), B_J27_afterNodeAccess_206 g l0 l3 l4 l5 l6 h = some o → P0 o → xm_W g Γ 206 [some (.ref l0), none, none, some (va_rf l3), some (va_rf l4), some (va_rf l5), some (va_rf l6)] [] h 0 0 := by
    intro l0 l3 l4 l5 l6 h o e hp
    unfold B_J27_afterNodeAccess_206 at e
    refine xw_aldo (x := l5) (show xm_Imp g Γ 206 (xi_ald 5 208) from xs_aload hΓ dJ27_afterNodeAccess_206) rfl ?_
    refine xw_nul (o := l5) (show xm_Imp g Γ 208 (xi_nul 221 211) from xs_ifnull hΓ dJ27_afterNodeAccess_208 (by decide)) (fun c => ?_) (fun c => ?_)
    · rw [if_pos c] at e
      refine xw_aldo (x := l6) (show xm_Imp g Γ 221 (xi_ald 6 223) from xs_aload hΓ dJ27_afterNodeAccess_221) rfl ?_
      refine xw_asto (x := l6) (ls' := [some (.ref l0), none, none, some (va_rf l6), some (va_rf l4), some (va_rf l5), some (va_rf l6)]) (show xm_Imp g Γ 223 (xi_ast 3 224) from xs_astore_n hΓ dJ27_afterNodeAccess_223 (Nat.le_of_ble_eq_true rfl)) rfl ?_
      exact xm_lx (hB_224 _ _ _ _ _ e hp) (And.intro rfl (And.intro rfl (And.intro rfl (trivial))))
    · rw [if_neg c] at e
      refine xw_aldo (x := l5) (show xm_Imp g Γ 211 (xi_ald 5 213) from xs_aload hΓ dJ27_afterNodeAccess_211) rfl ?_
      refine xw_aldo (x := l6) (show xm_Imp g Γ 213 (xi_ald 6 215) from xs_aload hΓ dJ27_afterNodeAccess_213) rfl ?_
      obtain ⟨a18, ha18, e⟩ := xo_b_s e
      obtain ⟨h19, e1, e⟩ := xo_b_s e
      refine xw_pt1 (o := l5) (show xm_Imp g Γ 215 (xi_put 20 5 (.object "java/util/LinkedHashMap$Entry") 218) from xs_put hG hΓ (ci := 20) (kf := 5) rfl (Nat.le_of_ble_eq_true rfl) rfl (by decide +kernel) q2321 dJ27_afterNodeAccess_215) ha18 (xv_fit (Or.inl ⟨_, rfl⟩) l6) e1 ?_
      refine xw_goto (show xm_Imp g Γ 218 (xi_goto 224) from xs_goto hΓ dJ27_afterNodeAccess_218 (by decide)) ?_
      exact xm_lx (hB_224 _ _ _ _ _ e hp) (And.intro rfl (And.intro rfl (And.intro rfl (trivial))))
  have hB_141 : ∀ (l0 : Nat) (l1 : Option Nat) (h : xm_H) (o : xm_H), B_J27_afterNodeAccess_141 g l0 l1 h = some o → P0 o → xm_W g Γ 141 [some (.ref l0), some (va_rf l1), none, none, none, none, none] [] h 0 0 := by
    intro l0 l1 h o e hp
    unfold B_J27_afterNodeAccess_141 at e
    refine xw_ald (show xm_Imp g Γ 141 (xi_ald 0 142) from xs_aload_n hΓ dJ27_afterNodeAccess_141) rfl ?_
    obtain ⟨v3, e1, e⟩ := xo_b_s e
    refine xw_gi1 (o := (some l0)) (show xm_Imp g Γ 142 (xi_get 18 11 145) from xs_get hG hΓ (ci := 18) (kf := 11) rfl (Nat.le_of_ble_eq_true rfl) q2173 dJ27_afterNodeAccess_142) rfl e1 ?_
    refine xw_psh (v := (.int (1))) (show xm_Imp g Γ 145 (xi_psh (.int (1)) 146) from xs_iconst hΓ dJ27_afterNodeAccess_145 (by decide)) ?_
    refine xw_ic (show xm_Imp g Γ 146 (xi_ic (fun x y => x = y) 149 265) from xs_icmp_ne hΓ dJ27_afterNodeAccess_146 (by decide)) (fun c => ?_) (fun c => ?_)
    · rw [if_pos c] at e
      refine xw_ald (show xm_Imp g Γ 149 (xi_ald 0 150) from xs_aload_n hΓ dJ27_afterNodeAccess_149) rfl ?_
      obtain ⟨v4, e1, e⟩ := xo_b_s e
      refine xw_gr1 (o := (some l0)) (show xm_Imp g Γ 150 (xi_get 18 8 153) from xs_get hG hΓ (ci := 18) (kf := 8) rfl (Nat.le_of_ble_eq_true rfl) q2170 dJ27_afterNodeAccess_150) rfl e1 ?_
      refine xw_dup (show xm_Imp g Γ 153 (xi_dup 154) from xs_dup hΓ dJ27_afterNodeAccess_153) (xm_c1_rf v4) ?_
      refine xw_asto (x := v4) (ls' := [some (.ref l0), some (va_rf l1), none, some (va_rf v4), none, none, none]) (show xm_Imp g Γ 154 (xi_ast 3 155) from xs_astore_n hΓ dJ27_afterNodeAccess_154 (Nat.le_of_ble_eq_true rfl)) rfl ?_
      refine xw_aldo (x := l1) (show xm_Imp g Γ 155 (xi_ald 1 156) from xs_aload_n hΓ dJ27_afterNodeAccess_155) rfl ?_
      refine xw_acm (o := v4) (o2 := l1) (show xm_Imp g Γ 156 (xi_acm 265 159) from xs_acmp_eq hΓ dJ27_afterNodeAccess_156 (by decide)) (fun c => ?_) (fun c => ?_)
      · rw [if_pos c] at e
        exact xw_vret (show xm_Imp g Γ 265 (xi_vret _) from xs_return hΓ rfl dJ27_afterNodeAccess_265) (hP0 _ (xl_fin e hp))
      · rw [if_neg c] at e
        refine xw_aldo (x := l1) (show xm_Imp g Γ 159 (xi_ald 1 160) from xs_aload_n hΓ dJ27_afterNodeAccess_159) rfl ?_
        obtain ⟨_, e1, e⟩ := xo_b_s e
        refine xw_cast (o := l1) (show xm_Imp g Γ 160 (xi_cast "java/util/LinkedHashMap$Entry" 163) from xs_cast hG hΓ (xm_in 20 rfl) q2311 dJ27_afterNodeAccess_160) e1 ?_
        refine xw_asto (x := l1) (ls' := [some (.ref l0), some (va_rf l1), none, some (va_rf v4), some (va_rf l1), none, none]) (show xm_Imp g Γ 163 (xi_ast 4 165) from xs_astore hΓ dJ27_afterNodeAccess_163 (Nat.le_of_ble_eq_true rfl)) ((xm_s1_o (o := v4) rfl).trans rfl) ?_
        refine xw_aldo (x := l1) (show xm_Imp g Γ 165 (xi_ald 4 167) from xs_aload hΓ dJ27_afterNodeAccess_165) rfl ?_
        obtain ⟨a5, ha5, e⟩ := xo_b_s e
        obtain ⟨v6, e1, e⟩ := xo_b_s e
        refine xw_gr1 (o := l1) (show xm_Imp g Γ 167 (xi_get 20 4 170) from xs_get hG hΓ (ci := 20) (kf := 4) rfl (Nat.le_of_ble_eq_true rfl) q2320 dJ27_afterNodeAccess_167) ha5 e1 ?_
        refine xw_asto (x := v6) (ls' := [some (.ref l0), some (va_rf l1), none, some (va_rf v4), some (va_rf l1), some (va_rf v6), none]) (show xm_Imp g Γ 170 (xi_ast 5 172) from xs_astore hΓ dJ27_afterNodeAccess_170 (Nat.le_of_ble_eq_true rfl)) ((xm_s1_o (o := l1) rfl).trans rfl) ?_
        refine xw_aldo (x := l1) (show xm_Imp g Γ 172 (xi_ald 4 174) from xs_aload hΓ dJ27_afterNodeAccess_172) rfl ?_
        obtain ⟨v7, e1, e⟩ := xo_b_s e
        refine xw_gr1 (o := l1) (show xm_Imp g Γ 174 (xi_get 20 5 177) from xs_get hG hΓ (ci := 20) (kf := 5) rfl (Nat.le_of_ble_eq_true rfl) q2321 dJ27_afterNodeAccess_174) ha5 e1 ?_
        refine xw_asto (x := v7) (ls' := [some (.ref l0), some (va_rf l1), none, some (va_rf v4), some (va_rf l1), some (va_rf v6), some (va_rf v7)]) (show xm_Imp g Γ 177 (xi_ast 6 179) from xs_astore hΓ dJ27_afterNodeAccess_177 (Nat.le_of_ble_eq_true rfl)) ((xm_s1_o (o := v6) rfl).trans rfl) ?_
        refine xw_aldo (x := l1) (show xm_Imp g Γ 179 (xi_ald 4 181) from xs_aload hΓ dJ27_afterNodeAccess_179) rfl ?_
        refine xw_psh (v := .null) (show xm_Imp g Γ 181 (xi_psh .null 182) from xs_null hΓ dJ27_afterNodeAccess_181) ?_
        obtain ⟨h8, e1, e⟩ := xo_b_s e
        refine xw_pt1 (o := l1) (show xm_Imp g Γ 182 (xi_put 20 4 (.object "java/util/LinkedHashMap$Entry") 185) from xs_put hG hΓ (ci := 20) (kf := 4) rfl (Nat.le_of_ble_eq_true rfl) rfl (by decide +kernel) q2320 dJ27_afterNodeAccess_182) ha5 (xv_fit (Or.inl ⟨_, rfl⟩) none) e1 ?_
        refine xw_aldo (x := v7) (show xm_Imp g Γ 185 (xi_ald 6 187) from xs_aload hΓ dJ27_afterNodeAccess_185) rfl ?_
        refine xw_nul (o := v7) (show xm_Imp g Γ 187 (xi_nul 190 199) from xs_ifnonnull hΓ dJ27_afterNodeAccess_187 (by decide)) (fun c => ?_) (fun c => ?_)
        · rw [if_pos c] at e
          refine xw_ald (show xm_Imp g Γ 190 (xi_ald 0 191) from xs_aload_n hΓ dJ27_afterNodeAccess_190) rfl ?_
          refine xw_aldo (x := v6) (show xm_Imp g Γ 191 (xi_ald 5 193) from xs_aload hΓ dJ27_afterNodeAccess_191) rfl ?_
          obtain ⟨h9, e1, e⟩ := xo_b_s e
          refine xw_pt1 (o := (some l0)) (show xm_Imp g Γ 193 (xi_put 18 9 (.object "java/util/LinkedHashMap$Entry") 196) from xs_put hG hΓ (ci := 18) (kf := 9) rfl (Nat.le_of_ble_eq_true rfl) rfl (by decide +kernel) q2171 dJ27_afterNodeAccess_193) rfl (xv_fit (Or.inl ⟨_, rfl⟩) v6) e1 ?_
          refine xw_goto (show xm_Imp g Γ 196 (xi_goto 206) from xs_goto hΓ dJ27_afterNodeAccess_196 (by decide)) ?_
          exact xm_lx (hB_206 _ _ _ _ _ _ _ e hp) (And.intro rfl (And.intro rfl (And.intro rfl (And.intro rfl (And.intro rfl (trivial))))))
        · rw [if_neg c] at e
          refine xw_aldo (x := v7) (show xm_Imp g Γ 199 (xi_ald 6 201) from xs_aload hΓ dJ27_afterNodeAccess_199) rfl ?_
          refine xw_aldo (x := v6) (show xm_Imp g Γ 201 (xi_ald 5 203) from xs_aload hΓ dJ27_afterNodeAccess_201) rfl ?_
          obtain ⟨a20, ha20, e⟩ := xo_b_s e
          obtain ⟨h21, e1, e⟩ := xo_b_s e
          refine xw_pt1 (o := v7) (show xm_Imp g Γ 203 (xi_put 20 4 (.object "java/util/LinkedHashMap$Entry") 206) from xs_put hG hΓ (ci := 20) (kf := 4) rfl (Nat.le_of_ble_eq_true rfl) rfl (by decide +kernel) q2320 dJ27_afterNodeAccess_203) ha20 (xv_fit (Or.inl ⟨_, rfl⟩) v6) e1 ?_
          exact xm_lx (hB_206 _ _ _ _ _ _ _ e hp) (And.intro rfl (And.intro rfl (And.intro rfl (And.intro rfl (And.intro rfl (trivial))))))
    · rw [if_neg c] at e
      exact xw_vret (show xm_Imp g Γ 265 (xi_vret _) from xs_return hΓ rfl dJ27_afterNodeAccess_265) (hP0 _ (xl_fin e hp))
  have hB_122 : ∀ (l0 : Nat) (l4 : Option Nat) (h : xm_H) (o : xm_H), B_J27_afterNodeAccess_122 g l0 l4 h = some o → P0 o → xm_W g Γ 122 [some (.ref l0), none, none, none, some (va_rf l4), none, none] [] h 0 0 := by
    intro l0 l4 h o e hp
    unfold B_J27_afterNodeAccess_122 at e
    refine xw_ald (show xm_Imp g Γ 122 (xi_ald 0 123) from xs_aload_n hΓ dJ27_afterNodeAccess_122) rfl ?_
    refine xw_aldo (x := l4) (show xm_Imp g Γ 123 (xi_ald 4 125) from xs_aload hΓ dJ27_afterNodeAccess_123) rfl ?_
    obtain ⟨h28, e1, e⟩ := xo_b_s e
    refine xw_pt1 (o := (some l0)) (show xm_Imp g Γ 125 (xi_put 18 9 (.object "java/util/LinkedHashMap$Entry") 128) from xs_put hG hΓ (ci := 18) (kf := 9) rfl (Nat.le_of_ble_eq_true rfl) rfl (by decide +kernel) q2171 dJ27_afterNodeAccess_125) rfl (xv_fit (Or.inl ⟨_, rfl⟩) l4) e1 ?_
    refine xw_ald (show xm_Imp g Γ 128 (xi_ald 0 129) from xs_aload_n hΓ dJ27_afterNodeAccess_128) rfl ?_
    refine xw_dup (show xm_Imp g Γ 129 (xi_dup 130) from xs_dup hΓ dJ27_afterNodeAccess_129) rfl ?_
    obtain ⟨v29, e1, e⟩ := xo_b_s e
    refine xw_gi1 (o := (some l0)) (show xm_Imp g Γ 130 (xi_get 18 5 133) from xs_getS hG hΓ (ci := 18) (kf := 5) rfl (Nat.le_of_ble_eq_true rfl) q2176 q2177 dJ27_afterNodeAccess_130) rfl e1 ?_
    refine xw_psh (v := (.int (1))) (show xm_Imp g Γ 133 (xi_psh (.int (1)) 134) from xs_iconst hΓ dJ27_afterNodeAccess_133 (by decide)) ?_
    refine xw_ii (show xm_Imp g Γ 134 (xi_ii (fun x y => x + y) 135) from xs_iadd hΓ dJ27_afterNodeAccess_134) ?_
    obtain ⟨h30, e1, e⟩ := xo_b_s e
    refine xw_pt1 (o := (some l0)) (show xm_Imp g Γ 135 (xi_put 18 5 (.int) 138) from xs_putS hG hΓ (ci := 18) (kf := 5) rfl (Nat.le_of_ble_eq_true rfl) rfl (by decide +kernel) q2176 q2177 dJ27_afterNodeAccess_135) rfl (xf_int _) e1 ?_
    refine xw_goto (show xm_Imp g Γ 138 (xi_goto 265) from xs_goto hΓ dJ27_afterNodeAccess_138 (by decide)) ?_
    exact xw_vret (show xm_Imp g Γ 265 (xi_vret _) from xs_return hΓ rfl dJ27_afterNodeAccess_265) (hP0 _ (xl_fin e hp))
  have hB_97 : ∀ (l0 : Nat) (l2 : Option Nat) (l4 : Option Nat) (h : xm_H) (o : xm_H), B_J27_afterNodeAccess_97 g l0 l2 l4 h = some o → P0 o → xm_W g Γ 97 [some (.ref l0), none, some (va_rf l2), none, some (va_rf l4), none, none] [] h 0 0 := by
    intro l0 l2 l4 h o e hp
    unfold B_J27_afterNodeAccess_97 at e
    refine xw_aldo (x := l2) (show xm_Imp g Γ 97 (xi_ald 2 98) from xs_aload_n hΓ dJ27_afterNodeAccess_97) rfl ?_
    refine xw_nul (o := l2) (show xm_Imp g Γ 98 (xi_nul 101 110) from xs_ifnonnull hΓ dJ27_afterNodeAccess_98 (by decide)) (fun c => ?_) (fun c => ?_)
    · rw [if_pos c] at e
      refine xw_ald (show xm_Imp g Γ 101 (xi_ald 0 102) from xs_aload_n hΓ dJ27_afterNodeAccess_101) rfl ?_
      refine xw_aldo (x := l4) (show xm_Imp g Γ 102 (xi_ald 4 104) from xs_aload hΓ dJ27_afterNodeAccess_102) rfl ?_
      obtain ⟨h27, e1, e⟩ := xo_b_s e
      refine xw_pt1 (o := (some l0)) (show xm_Imp g Γ 104 (xi_put 18 8 (.object "java/util/LinkedHashMap$Entry") 107) from xs_put hG hΓ (ci := 18) (kf := 8) rfl (Nat.le_of_ble_eq_true rfl) rfl (by decide +kernel) q2170 dJ27_afterNodeAccess_104) rfl (xv_fit (Or.inl ⟨_, rfl⟩) l4) e1 ?_
      refine xw_goto (show xm_Imp g Γ 107 (xi_goto 122) from xs_goto hΓ dJ27_afterNodeAccess_107 (by decide)) ?_
      exact xm_lx (hB_122 _ _ _ _ e hp) (And.intro rfl (And.intro rfl (trivial)))
    · rw [if_neg c] at e
      refine xw_aldo (x := l4) (show xm_Imp g Γ 110 (xi_ald 4 112) from xs_aload hΓ dJ27_afterNodeAccess_110) rfl ?_
      refine xw_aldo (x := l2) (show xm_Imp g Γ 112 (xi_ald 2 113) from xs_aload_n hΓ dJ27_afterNodeAccess_112) rfl ?_
      obtain ⟨a31, ha31, e⟩ := xo_b_s e
      obtain ⟨h32, e1, e⟩ := xo_b_s e
      refine xw_pt1 (o := l4) (show xm_Imp g Γ 113 (xi_put 20 4 (.object "java/util/LinkedHashMap$Entry") 116) from xs_put hG hΓ (ci := 20) (kf := 4) rfl (Nat.le_of_ble_eq_true rfl) rfl (by decide +kernel) q2320 dJ27_afterNodeAccess_113) ha31 (xv_fit (Or.inl ⟨_, rfl⟩) l2) e1 ?_
      refine xw_aldo (x := l2) (show xm_Imp g Γ 116 (xi_ald 2 117) from xs_aload_n hΓ dJ27_afterNodeAccess_116) rfl ?_
      refine xw_aldo (x := l4) (show xm_Imp g Γ 117 (xi_ald 4 119) from xs_aload hΓ dJ27_afterNodeAccess_117) rfl ?_
      obtain ⟨a33, ha33, e⟩ := xo_b_s e
      obtain ⟨h34, e1, e⟩ := xo_b_s e
      refine xw_pt1 (o := l2) (show xm_Imp g Γ 119 (xi_put 20 5 (.object "java/util/LinkedHashMap$Entry") 122) from xs_put hG hΓ (ci := 20) (kf := 5) rfl (Nat.le_of_ble_eq_true rfl) rfl (by decide +kernel) q2321 dJ27_afterNodeAccess_119) ha33 (xv_fit (Or.inl ⟨_, rfl⟩) l4) e1 ?_
      exact xm_lx (hB_122 _ _ _ _ e hp) (And.intro rfl (And.intro rfl (trivial)))
  have hB_79 : ∀ (l0 : Nat) (l2 : Option Nat) (l4 : Option Nat) (l5 : Option Nat) (l6 : Option Nat) (h : xm_H) (o : xm_H), B_J27_afterNodeAccess_79 g l0 l2 l4 l5 l6 h = some o → P0 o → xm_W g Γ 79 [some (.ref l0), none, some (va_rf l2), none, some (va_rf l4), some (va_rf l5), some (va_rf l6)] [] h 0 0 := by
    intro l0 l2 l4 l5 l6 h o e hp
    unfold B_J27_afterNodeAccess_79 at e
    refine xw_aldo (x := l6) (show xm_Imp g Γ 79 (xi_ald 6 81) from xs_aload hΓ dJ27_afterNodeAccess_79) rfl ?_
    refine xw_nul (o := l6) (show xm_Imp g Γ 81 (xi_nul 94 84) from xs_ifnull hΓ dJ27_afterNodeAccess_81 (by decide)) (fun c => ?_) (fun c => ?_)
    · rw [if_pos c] at e
      refine xw_aldo (x := l5) (show xm_Imp g Γ 94 (xi_ald 5 96) from xs_aload hΓ dJ27_afterNodeAccess_94) rfl ?_
      refine xw_asto (x := l5) (ls' := [some (.ref l0), none, some (va_rf l5), none, some (va_rf l4), some (va_rf l5), some (va_rf l6)]) (show xm_Imp g Γ 96 (xi_ast 2 97) from xs_astore_n hΓ dJ27_afterNodeAccess_96 (Nat.le_of_ble_eq_true rfl)) rfl ?_
      exact xm_lx (hB_97 _ _ _ _ _ e hp) (And.intro rfl (And.intro rfl (And.intro rfl (trivial))))
    · rw [if_neg c] at e
      refine xw_aldo (x := l6) (show xm_Imp g Γ 84 (xi_ald 6 86) from xs_aload hΓ dJ27_afterNodeAccess_84) rfl ?_
      refine xw_aldo (x := l5) (show xm_Imp g Γ 86 (xi_ald 5 88) from xs_aload hΓ dJ27_afterNodeAccess_86) rfl ?_
      obtain ⟨a35, ha35, e⟩ := xo_b_s e
      obtain ⟨h36, e1, e⟩ := xo_b_s e
      refine xw_pt1 (o := l6) (show xm_Imp g Γ 88 (xi_put 20 4 (.object "java/util/LinkedHashMap$Entry") 91) from xs_put hG hΓ (ci := 20) (kf := 4) rfl (Nat.le_of_ble_eq_true rfl) rfl (by decide +kernel) q2320 dJ27_afterNodeAccess_88) ha35 (xv_fit (Or.inl ⟨_, rfl⟩) l5) e1 ?_
      refine xw_goto (show xm_Imp g Γ 91 (xi_goto 97) from xs_goto hΓ dJ27_afterNodeAccess_91 (by decide)) ?_
      exact xm_lx (hB_97 _ _ _ _ _ e hp) (And.intro rfl (And.intro rfl (And.intro rfl (trivial))))
  have hB_22 : ∀ (l0 : Nat) (l1 : Option Nat) (h : xm_H) (o : xm_H), B_J27_afterNodeAccess_22 g l0 l1 h = some o → P0 o → xm_W g Γ 22 [some (.ref l0), some (va_rf l1), none, none, none, none, none] [] h 0 0 := by
    intro l0 l1 h o e hp
    unfold B_J27_afterNodeAccess_22 at e
    refine xw_ald (show xm_Imp g Γ 22 (xi_ald 0 23) from xs_aload_n hΓ dJ27_afterNodeAccess_22) rfl ?_
    obtain ⟨v2, e1, e⟩ := xo_b_s e
    refine xw_gr1 (o := (some l0)) (show xm_Imp g Γ 23 (xi_get 18 9 26) from xs_get hG hΓ (ci := 18) (kf := 9) rfl (Nat.le_of_ble_eq_true rfl) q2171 dJ27_afterNodeAccess_23) rfl e1 ?_
    refine xw_dup (show xm_Imp g Γ 26 (xi_dup 27) from xs_dup hΓ dJ27_afterNodeAccess_26) (xm_c1_rf v2) ?_
    refine xw_asto (x := v2) (ls' := [some (.ref l0), some (va_rf l1), some (va_rf v2), none, none, none, none]) (show xm_Imp g Γ 27 (xi_ast 2 28) from xs_astore_n hΓ dJ27_afterNodeAccess_27 (Nat.le_of_ble_eq_true rfl)) ((xm_s1_o (o := l1) rfl).trans rfl) ?_
    refine xw_aldo (x := l1) (show xm_Imp g Γ 28 (xi_ald 1 29) from xs_aload_n hΓ dJ27_afterNodeAccess_28) rfl ?_
    refine xw_acm (o := v2) (o2 := l1) (show xm_Imp g Γ 29 (xi_acm 141 32) from xs_acmp_eq hΓ dJ27_afterNodeAccess_29 (by decide)) (fun c => ?_) (fun c => ?_)
    · rw [if_pos c] at e
      exact xm_lx (hB_141 _ _ _ _ e hp) (And.intro rfl (And.intro rfl (trivial)))
    · rw [if_neg c] at e
      refine xw_aldo (x := l1) (show xm_Imp g Γ 32 (xi_ald 1 33) from xs_aload_n hΓ dJ27_afterNodeAccess_32) rfl ?_
      obtain ⟨_, e1, e⟩ := xo_b_s e
      refine xw_cast (o := l1) (show xm_Imp g Γ 33 (xi_cast "java/util/LinkedHashMap$Entry" 36) from xs_cast hG hΓ (xm_in 20 rfl) q2311 dJ27_afterNodeAccess_33) e1 ?_
      refine xw_asto (x := l1) (ls' := [some (.ref l0), some (va_rf l1), some (va_rf v2), none, some (va_rf l1), none, none]) (show xm_Imp g Γ 36 (xi_ast 4 38) from xs_astore hΓ dJ27_afterNodeAccess_36 (Nat.le_of_ble_eq_true rfl)) rfl ?_
      refine xw_aldo (x := l1) (show xm_Imp g Γ 38 (xi_ald 4 40) from xs_aload hΓ dJ27_afterNodeAccess_38) rfl ?_
      obtain ⟨a22, ha22, e⟩ := xo_b_s e
      obtain ⟨v23, e1, e⟩ := xo_b_s e
      refine xw_gr1 (o := l1) (show xm_Imp g Γ 40 (xi_get 20 4 43) from xs_get hG hΓ (ci := 20) (kf := 4) rfl (Nat.le_of_ble_eq_true rfl) q2320 dJ27_afterNodeAccess_40) ha22 e1 ?_
      refine xw_asto (x := v23) (ls' := [some (.ref l0), some (va_rf l1), some (va_rf v2), none, some (va_rf l1), some (va_rf v23), none]) (show xm_Imp g Γ 43 (xi_ast 5 45) from xs_astore hΓ dJ27_afterNodeAccess_43 (Nat.le_of_ble_eq_true rfl)) ((xm_s1_o (o := l1) rfl).trans rfl) ?_
      refine xw_aldo (x := l1) (show xm_Imp g Γ 45 (xi_ald 4 47) from xs_aload hΓ dJ27_afterNodeAccess_45) rfl ?_
      obtain ⟨v24, e1, e⟩ := xo_b_s e
      refine xw_gr1 (o := l1) (show xm_Imp g Γ 47 (xi_get 20 5 50) from xs_get hG hΓ (ci := 20) (kf := 5) rfl (Nat.le_of_ble_eq_true rfl) q2321 dJ27_afterNodeAccess_47) ha22 e1 ?_
      refine xw_asto (x := v24) (ls' := [some (.ref l0), some (va_rf l1), some (va_rf v2), none, some (va_rf l1), some (va_rf v23), some (va_rf v24)]) (show xm_Imp g Γ 50 (xi_ast 6 52) from xs_astore hΓ dJ27_afterNodeAccess_50 (Nat.le_of_ble_eq_true rfl)) ((xm_s1_o (o := v23) rfl).trans rfl) ?_
      refine xw_aldo (x := l1) (show xm_Imp g Γ 52 (xi_ald 4 54) from xs_aload hΓ dJ27_afterNodeAccess_52) rfl ?_
      refine xw_psh (v := .null) (show xm_Imp g Γ 54 (xi_psh .null 55) from xs_null hΓ dJ27_afterNodeAccess_54) ?_
      obtain ⟨h25, e1, e⟩ := xo_b_s e
      refine xw_pt1 (o := l1) (show xm_Imp g Γ 55 (xi_put 20 5 (.object "java/util/LinkedHashMap$Entry") 58) from xs_put hG hΓ (ci := 20) (kf := 5) rfl (Nat.le_of_ble_eq_true rfl) rfl (by decide +kernel) q2321 dJ27_afterNodeAccess_55) ha22 (xv_fit (Or.inl ⟨_, rfl⟩) none) e1 ?_
      refine xw_aldo (x := v23) (show xm_Imp g Γ 58 (xi_ald 5 60) from xs_aload hΓ dJ27_afterNodeAccess_58) rfl ?_
      refine xw_nul (o := v23) (show xm_Imp g Γ 60 (xi_nul 63 72) from xs_ifnonnull hΓ dJ27_afterNodeAccess_60 (by decide)) (fun c => ?_) (fun c => ?_)
      · rw [if_pos c] at e
        refine xw_ald (show xm_Imp g Γ 63 (xi_ald 0 64) from xs_aload_n hΓ dJ27_afterNodeAccess_63) rfl ?_
        refine xw_aldo (x := v24) (show xm_Imp g Γ 64 (xi_ald 6 66) from xs_aload hΓ dJ27_afterNodeAccess_64) rfl ?_
        obtain ⟨h26, e1, e⟩ := xo_b_s e
        refine xw_pt1 (o := (some l0)) (show xm_Imp g Γ 66 (xi_put 18 8 (.object "java/util/LinkedHashMap$Entry") 69) from xs_put hG hΓ (ci := 18) (kf := 8) rfl (Nat.le_of_ble_eq_true rfl) rfl (by decide +kernel) q2170 dJ27_afterNodeAccess_66) rfl (xv_fit (Or.inl ⟨_, rfl⟩) v24) e1 ?_
        refine xw_goto (show xm_Imp g Γ 69 (xi_goto 79) from xs_goto hΓ dJ27_afterNodeAccess_69 (by decide)) ?_
        exact xm_lx (hB_79 _ _ _ _ _ _ _ e hp) (And.intro rfl (And.intro rfl (And.intro rfl (And.intro rfl (And.intro rfl (trivial))))))
      · rw [if_neg c] at e
        refine xw_aldo (x := v23) (show xm_Imp g Γ 72 (xi_ald 5 74) from xs_aload hΓ dJ27_afterNodeAccess_72) rfl ?_
        refine xw_aldo (x := v24) (show xm_Imp g Γ 74 (xi_ald 6 76) from xs_aload hΓ dJ27_afterNodeAccess_74) rfl ?_
        obtain ⟨a37, ha37, e⟩ := xo_b_s e
        obtain ⟨h38, e1, e⟩ := xo_b_s e
        refine xw_pt1 (o := v23) (show xm_Imp g Γ 76 (xi_put 20 5 (.object "java/util/LinkedHashMap$Entry") 79) from xs_put hG hΓ (ci := 20) (kf := 5) rfl (Nat.le_of_ble_eq_true rfl) rfl (by decide +kernel) q2321 dJ27_afterNodeAccess_76) ha37 (xv_fit (Or.inl ⟨_, rfl⟩) v24) e1 ?_
        exact xm_lx (hB_79 _ _ _ _ _ _ _ e hp) (And.intro rfl (And.intro rfl (And.intro rfl (And.intro rfl (And.intro rfl (trivial))))))
  unfold F_J27_afterNodeAccess at e
  refine xw_ald (show xm_Imp g Γ 0 (xi_ald 0 1) from xs_aload_n hΓ dJ27_afterNodeAccess_0) rfl ?_
  obtain ⟨v1, e1, e⟩ := xo_b_s e
  refine xw_gi1 (o := (some p0)) (show xm_Imp g Γ 1 (xi_get 18 11 4) from xs_get hG hΓ (ci := 18) (kf := 11) rfl (Nat.le_of_ble_eq_true rfl) q2173 dJ27_afterNodeAccess_1) rfl e1 ?_
  refine xw_psh (v := (.int (2))) (show xm_Imp g Γ 4 (xi_psh (.int (2)) 5) from xs_iconst hΓ dJ27_afterNodeAccess_4 (by decide)) ?_
  refine xw_ic (show xm_Imp g Γ 5 (xi_ic (fun x y => x = y) 22 8) from xs_icmp_eq hΓ dJ27_afterNodeAccess_5 (by decide)) (fun c => ?_) (fun c => ?_)
  · rw [if_pos c] at e
    exact hB_22 _ _ _ _ e hp
  · rw [if_neg c] at e
    refine xw_ald (show xm_Imp g Γ 8 (xi_ald 0 9) from xs_aload_n hΓ dJ27_afterNodeAccess_8) rfl ?_
    obtain ⟨v39, e1, e⟩ := xo_b_s e
    refine xw_gi1 (o := (some p0)) (show xm_Imp g Γ 9 (xi_get 18 11 12) from xs_get hG hΓ (ci := 18) (kf := 11) rfl (Nat.le_of_ble_eq_true rfl) q2173 dJ27_afterNodeAccess_9) rfl e1 ?_
    refine xw_if (show xm_Imp g Γ 12 (xi_if (fun x => x = 0) 15 141) from xs_if_ne hΓ dJ27_afterNodeAccess_12 (by decide)) (fun c => ?_) (fun c => ?_)
    · rw [if_pos c] at e
      refine xw_ald (show xm_Imp g Γ 15 (xi_ald 0 16) from xs_aload_n hΓ dJ27_afterNodeAccess_15) rfl ?_
      obtain ⟨v40, e1, e⟩ := xo_b_s e
      refine xw_gi1 (o := (some p0)) (show xm_Imp g Γ 16 (xi_get 18 10 19) from xs_get hG hΓ (ci := 18) (kf := 10) rfl (Nat.le_of_ble_eq_true rfl) q2172 dJ27_afterNodeAccess_16) rfl e1 ?_
      refine xw_if (show xm_Imp g Γ 19 (xi_if (fun x => x = 0) 141 22) from xs_if_eq hΓ dJ27_afterNodeAccess_19 (by decide)) (fun c => ?_) (fun c => ?_)
      · rw [if_pos c] at e
        exact hB_141 _ _ _ _ e hp
      · rw [if_neg c] at e
        exact hB_22 _ _ _ _ e hp
    · rw [if_neg c] at e
      exact hB_141 _ _ _ _ e hp
noncomputable def F_J26_afterNodeInsertion (g : xm_G) (p0 : Nat) (p1 : Int32) (h : xm_H) : Option (Unit) :=
 some ()
set_option maxHeartbeats 4000000 in
theorem K_J26_afterNodeInsertion {g : xm_G} (hG : xm_Gw g) (p0 : Nat) (p1 : Int32) (h : xm_H) {o : Unit} (e : F_J26_afterNodeInsertion g p0 p1 h = some o) {Q : xm_P} {X : xm_X} (hQ : Q none h) : xm_Run g M_J26_afterNodeInsertion 1 [.ref p0, .int p1] h 0 0 Q X := by
  refine xm_Run.of pn_java_util_HashMap (Nat.le_of_ble_eq_true rfl) (fun Γ hΓ => ?_)
  obtain ⟨P0, hP0, hp⟩ : ∃ P : Unit → Prop, (∀ o, P o → Q none h) ∧ P o := ⟨fun o => Q none h, fun _ h => h, hQ⟩
  clear hQ
  show xm_W g Γ 0 [some (.ref p0), some (.int p1)] [] h 0 0
  unfold F_J26_afterNodeInsertion at e
  exact xw_vret (show xm_Imp g Γ 0 (xi_vret _) from xs_return hΓ rfl dJ26_afterNodeInsertion_0) (hP0 _ (xl_fin e hp))
noncomputable def F_J27_removeEldestEntry (g : xm_G) (p0 : Nat) (p1 : Option Nat) (h : xm_H) : Option (Int32) :=
 some 0
set_option maxHeartbeats 4000000 in
theorem K_J27_removeEldestEntry {g : xm_G} (hG : xm_Gw g) (p0 : Nat) (p1 : Option Nat) (h : xm_H) {o : Int32} (e : F_J27_removeEldestEntry g p0 p1 h = some o) {Q : xm_P} {X : xm_X} (hQ : Q (some (.int o)) h) : xm_Run g M_J27_removeEldestEntry 1 [.ref p0, va_rf p1] h 0 0 Q X := by
  refine xm_Run.of2 (ls := [some (.ref p0), some (va_rf p1)]) pn_java_util_LinkedHashMap (by cases p1 <;> exact Nat.le_of_ble_eq_true rfl) (by cases p1 <;> rfl) (fun Γ hΓ => ?_)
  obtain ⟨P0, hP0, hp⟩ : ∃ P : Int32 → Prop, (∀ o, P o → Q (some (.int o)) h) ∧ P o := ⟨fun o => Q (some (.int o)) h, fun _ h => h, hQ⟩
  clear hQ
  show xm_W g Γ 0 [some (.ref p0), some (va_rf p1)] [] h 0 0
  unfold F_J27_removeEldestEntry at e
  refine xw_psh (v := (.int (0))) (show xm_Imp g Γ 0 (xi_psh (.int (0)) 1) from xs_iconst hΓ dJ27_removeEldestEntry_0 (by decide)) ?_
  have hq := hP0 _ (xl_fin e hp)
  exact xw_iret (show xm_Imp g Γ 1 (xi_iret .boolean _) from xs_ireturn hΓ rfl dJ27_removeEldestEntry_1) rfl hq
noncomputable def F_J27_afterNodeInsertion (g : xm_G) (p0 : Nat) (p1 : Int32) (h : xm_H) : Option (Unit) :=
 (if p1 = 0 then
 some () else
 xo_b (xh_fr [(18, 8)] h p0) (fun v1 =>
 (if v1 = none then
 some () else
 xo_b (xh_is 18 h p0) (fun _ =>
 xo_b (F_J27_removeEldestEntry g p0 v1 h) (fun v2 =>
 (if v2 = 0 then
 some () else
 xo_b v1 (fun a3 =>
 xo_b (xh_fr [(20, 1)] h a3) (fun v4 =>
 none))))))))
set_option maxHeartbeats 4000000 in
theorem K_J27_afterNodeInsertion {g : xm_G} (hG : xm_Gw g) (p0 : Nat) (p1 : Int32) (h : xm_H) {o : Unit} (e : F_J27_afterNodeInsertion g p0 p1 h = some o) {Q : xm_P} {X : xm_X} (hQ : Q none h) : xm_Run g M_J27_afterNodeInsertion 6 [.ref p0, .int p1] h 0 0 Q X := by
  refine xm_Run.of pn_java_util_LinkedHashMap (Nat.le_of_ble_eq_true rfl) (fun Γ hΓ => ?_)
  obtain ⟨P0, hP0, hp⟩ : ∃ P : Unit → Prop, (∀ o, P o → Q none h) ∧ P o := ⟨fun o => Q none h, fun _ h => h, hQ⟩
  clear hQ
  show xm_W g Γ 0 [some (.ref p0), some (.int p1), none, none] [] h 0 0
  unfold F_J27_afterNodeInsertion at e
  refine xw_ild (show xm_Imp g Γ 0 (xi_ild 1 1) from xs_iload_n hΓ dJ27_afterNodeInsertion_0) rfl ?_
  refine xw_if (show xm_Imp g Γ 1 (xi_if (fun x => x = 0) 39 4) from xs_if_eq hΓ dJ27_afterNodeInsertion_1 (by decide)) (fun c => ?_) (fun c => ?_)
  · rw [if_pos c] at e
    exact xw_vret (show xm_Imp g Γ 39 (xi_vret _) from xs_return hΓ rfl dJ27_afterNodeInsertion_39) (hP0 _ (xl_fin e hp))
  · rw [if_neg c] at e
    refine xw_ald (show xm_Imp g Γ 4 (xi_ald 0 5) from xs_aload_n hΓ dJ27_afterNodeInsertion_4) rfl ?_
    obtain ⟨v1, e1, e⟩ := xo_b_s e
    refine xw_gr1 (o := (some p0)) (show xm_Imp g Γ 5 (xi_get 18 8 8) from xs_get hG hΓ (ci := 18) (kf := 8) rfl (Nat.le_of_ble_eq_true rfl) q2170 dJ27_afterNodeInsertion_5) rfl e1 ?_
    refine xw_dup (show xm_Imp g Γ 8 (xi_dup 9) from xs_dup hΓ dJ27_afterNodeInsertion_8) (xm_c1_rf v1) ?_
    refine xw_asto (x := v1) (ls' := [some (.ref p0), some (.int p1), some (va_rf v1), none]) (show xm_Imp g Γ 9 (xi_ast 2 10) from xs_astore_n hΓ dJ27_afterNodeInsertion_9 (Nat.le_of_ble_eq_true rfl)) rfl ?_
    refine xw_nul (o := v1) (show xm_Imp g Γ 10 (xi_nul 39 13) from xs_ifnull hΓ dJ27_afterNodeInsertion_10 (by decide)) (fun c => ?_) (fun c => ?_)
    · rw [if_pos c] at e
      exact xw_vret (show xm_Imp g Γ 39 (xi_vret _) from xs_return hΓ rfl dJ27_afterNodeInsertion_39) (hP0 _ (xl_fin e hp))
    · rw [if_neg c] at e
      refine xw_ald (show xm_Imp g Γ 13 (xi_ald 0 14) from xs_aload_n hΓ dJ27_afterNodeInsertion_13) rfl ?_
      refine xw_aldo (x := v1) (show xm_Imp g Γ 14 (xi_ald 2 15) from xs_aload_n hΓ dJ27_afterNodeInsertion_14) rfl ?_
      obtain ⟨_, e0, e⟩ := xo_b_s e
      obtain ⟨v2, e1, e⟩ := xo_b_s e
      refine xw_hv1 (o := (some p0)) (show xm_Imp g Γ 15 (xi_vir g 18 M_J27_removeEldestEntry 1 1 18) from xs_invV hG hΓ k_J27_removeEldestEntry rfl (ci := 18) rfl q2717 q2718 q2719 dJ27_afterNodeInsertion_15) rfl rfl e0 (fun Q X hQ => K_J27_removeEldestEntry hG p0 v1 _ e1 hQ) ?_
      refine xw_if (show xm_Imp g Γ 18 (xi_if (fun x => x = 0) 39 21) from xs_if_eq hΓ dJ27_afterNodeInsertion_18 (by decide)) (fun c => ?_) (fun c => ?_)
      · rw [if_pos c] at e
        exact xw_vret (show xm_Imp g Γ 39 (xi_vret _) from xs_return hΓ rfl dJ27_afterNodeInsertion_39) (hP0 _ (xl_fin e hp))
      · rw [if_neg c] at e
        refine xw_aldo (x := v1) (show xm_Imp g Γ 21 (xi_ald 2 22) from xs_aload_n hΓ dJ27_afterNodeInsertion_21) rfl ?_
        obtain ⟨a3, ha3, e⟩ := xo_b_s e
        obtain ⟨v4, e1, e⟩ := xo_b_s e
        refine xw_gr1 (o := v1) (show xm_Imp g Γ 22 (xi_get 20 1 25) from xs_getS hG hΓ (ci := 20) (kf := 1) rfl (Nat.le_of_ble_eq_true rfl) q2331 q2332 dJ27_afterNodeInsertion_22) ha3 e1 ?_
        refine xw_asto (x := v4) (ls' := [some (.ref p0), some (.int p1), some (va_rf v1), some (va_rf v4)]) (show xm_Imp g Γ 25 (xi_ast 3 26) from xs_astore_n hΓ dJ27_afterNodeInsertion_25 (Nat.le_of_ble_eq_true rfl)) ((xm_s1_o (o := v1) rfl).trans rfl) ?_
        refine xw_ald (show xm_Imp g Γ 26 (xi_ald 0 27) from xs_aload_n hΓ dJ27_afterNodeInsertion_26) rfl ?_
        refine xw_aldo (x := v4) (show xm_Imp g Γ 27 (xi_ald 3 28) from xs_aload_n hΓ dJ27_afterNodeInsertion_27) rfl ?_
        cases e
noncomputable def B_J26_putVal_292 (g : xm_G) (l0 : Nat) (l5 : Int32) (h : xm_H) (bc : Nat) (bs : Nat) (Q : Option Nat → xm_H → Prop) : Prop :=
 xt_b (xh_ci h l0) (fun c22 =>
 (if c22 = 17 then
 xt_b (F_J26_afterNodeInsertion g l0 l5 h) (fun v23 =>
 Q none h) else
 (if c22 = 18 then
 xt_b (F_J27_afterNodeInsertion g l0 l5 h) (fun v24 =>
 Q none h) else
 False)))
noncomputable def B_J26_putVal_259 (g : xm_G) (l0 : Nat) (l5 : Int32) (h : xm_H) (bc : Nat) (bs : Nat) (Q : Option Nat → xm_H → Prop) : Prop :=
 xt_b (xh_fi [(17, 5), (18, 5)] h l0) (fun v17 =>
 xt_b (xh_w [(17, 5), (18, 5)] h l0 (.int (v17 + 1))) (fun h18 =>
 xt_b (xh_fi [(17, 4), (18, 4)] h18 l0) (fun v19 =>
 xt_b (xh_w [(17, 4), (18, 4)] h18 l0 (.int (v19 + 1))) (fun h20 =>
 xt_b (xh_fi [(17, 6), (18, 6)] h20 l0) (fun v21 =>
 (if (v19 + 1) ≤ v21 then
 B_J26_putVal_292 g l0 l5 h20 bc bs Q else
 xt_b (xh_ci h20 l0) (fun c25 =>
 (if c25 = 17 then
 xt_c bc bs (fun m26 m27 => F_J26_resize g l0 h20 m26 m27 (fun v29 h28 =>
 B_J26_putVal_292 g l0 l5 h28 (bc - m26) (bs - m27) Q)) else
 (if c25 = 18 then
 xt_c bc bs (fun m30 m31 => F_J26_resize g l0 h20 m30 m31 (fun v33 h32 =>
 B_J26_putVal_292 g l0 l5 h32 (bc - m30) (bs - m31) Q)) else
 False)))))))))
noncomputable def B_J26_putVal_250 (g : xm_G) (l0 : Nat) (l10 : Option Nat) (l12 : Option Nat) (h : xm_H) (bc : Nat) (bs : Nat) (Q : Option Nat → xm_H → Prop) : Prop :=
 xt_b (xh_ci h l0) (fun c46 =>
 (if c46 = 17 then
 xt_b (F_J26_afterNodeAccess g l0 l10 h) (fun v47 =>
 Q l12 h) else
 (if c46 = 18 then
 xt_b (F_J27_afterNodeAccess g l0 l10 h) (fun v48 =>
 Q l12 v48) else
 False)))
noncomputable def B_J26_putVal_244 (g : xm_G) (l0 : Nat) (l3 : Option Nat) (l10 : Option Nat) (l12 : Option Nat) (h : xm_H) (bc : Nat) (bs : Nat) (Q : Option Nat → xm_H → Prop) : Prop :=
 xt_b l10 (fun a44 =>
 xt_b (xh_w [(19, 2), (20, 2)] h a44 (va_rf l3)) (fun h45 =>
 B_J26_putVal_250 g l0 l10 l12 h45 bc bs Q))
noncomputable def B_J26_putVal_222 (g : xm_G) (l0 : Nat) (l3 : Option Nat) (l4 : Int32) (l5 : Int32) (l10 : Option Nat) (h : xm_H) (bc : Nat) (bs : Nat) (Q : Option Nat → xm_H → Prop) : Prop :=
 (if l10 = none then
 B_J26_putVal_259 g l0 l5 h bc bs Q else
 xt_b l10 (fun a42 =>
 xt_b (xh_fr [(19, 2), (20, 2)] h a42) (fun v43 =>
 (if l4 = 0 then
 B_J26_putVal_244 g l0 l3 l10 v43 h bc bs Q else
 (if v43 = none then
 B_J26_putVal_244 g l0 l3 l10 v43 h bc bs Q else
 B_J26_putVal_250 g l0 l10 v43 h bc bs Q)))))
noncomputable def B_J26_putVal_97 (g : xm_G) (l0 : Nat) (l3 : Option Nat) (l4 : Int32) (l5 : Int32) (l7 : Option Nat) (h : xm_H) (bc : Nat) (bs : Nat) (Q : Option Nat → xm_H → Prop) : Prop :=
 B_J26_putVal_222 g l0 l3 l4 l5 l7 h bc bs Q
noncomputable def B_J26_putVal_212 (g : xm_G) (l0 : Nat) (l1 : Int32) (l2 : Option Nat) (l3 : Option Nat) (l4 : Int32) (l5 : Int32) (l6 : Option Nat) (l10 : Option Nat) (l12 : Int32) (h : xm_H) (bc : Nat) (bs : Nat) (k134 : Option Nat × Int32 × xm_H × Nat × Nat → Prop) (Q : Option Nat → xm_H → Prop) : Prop :=
 k134 (l10, (l12 + 1), h, bc, bs)
noncomputable def D_J26_putVal_134 (g : xm_G) (l0 : Nat) (l1 : Int32) (l2 : Option Nat) (l3 : Option Nat) (l4 : Int32) (l5 : Int32) (l6 : Option Nat) (Q : Option Nat → xm_H → Prop) (k134 : Option Nat × Int32 × xm_H × Nat × Nat → Prop) (s : Option Nat × Int32 × xm_H × Nat × Nat) : Prop :=
 xt_b s.1 (fun a50 =>
 xt_b (xh_fr [(19, 3), (20, 3)] s.2.2.1 a50) (fun v51 =>
 (if v51 = none then
 xt_b (xh_ci s.2.2.1 l0) (fun c52 =>
 (if c52 = 17 then
 xt_c s.2.2.2.1 s.2.2.2.2 (fun m53 m54 => F_J26_newNode g l0 l1 l2 l3 none s.2.2.1 m53 m54 (fun v56 h55 =>
 xt_b (xh_w [(19, 3), (20, 3)] h55 a50 (va_rf v56)) (fun h57 =>
 (if s.2.1 < (7 : Int32) then
 B_J26_putVal_222 g l0 l3 l4 l5 v51 h57 (s.2.2.2.1 - m53) (s.2.2.2.2 - m54) Q else
 False)))) else
 (if c52 = 18 then
 xt_c s.2.2.2.1 s.2.2.2.2 (fun m58 m59 => F_J27_newNode g l0 l1 l2 l3 none s.2.2.1 m58 m59 (fun v61 h60 =>
 xt_b (xh_w [(19, 3), (20, 3)] h60 a50 (va_rf v61)) (fun h62 =>
 (if s.2.1 < (7 : Int32) then
 B_J26_putVal_222 g l0 l3 l4 l5 v51 h62 (s.2.2.2.1 - m58) (s.2.2.2.2 - m59) Q else
 False)))) else
 False))) else
 xt_b v51 (fun a63 =>
 xt_b (xh_fi [(19, 0), (20, 0)] s.2.2.1 a63) (fun v64 =>
 (if v64 = l1 then
 xt_b (xh_fr [(19, 1), (20, 1)] s.2.2.1 a63) (fun v65 =>
 (if v65 = l2 then
 B_J26_putVal_222 g l0 l3 l4 l5 v51 s.2.2.1 s.2.2.2.1 s.2.2.2.2 Q else
 (if l2 = none then
 B_J26_putVal_212 g l0 l1 l2 l3 l4 l5 l6 v51 s.2.1 s.2.2.1 s.2.2.2.1 s.2.2.2.2 k134 Q else
 xt_b l2 (fun a66 =>
 xt_b (xh_is 11 s.2.2.1 a66) (fun _ =>
 xt_b (F_X13_equals g a66 v65 s.2.2.1) (fun v67 =>
 (if v67 = 0 then
 B_J26_putVal_212 g l0 l1 l2 l3 l4 l5 l6 v51 s.2.1 s.2.2.1 s.2.2.2.1 s.2.2.2.2 k134 Q else
 B_J26_putVal_222 g l0 l3 l4 l5 v51 s.2.2.1 s.2.2.2.1 s.2.2.2.2 Q))))))) else
 B_J26_putVal_212 g l0 l1 l2 l3 l4 l5 l6 v51 s.2.1 s.2.2.1 s.2.2.2.1 s.2.2.2.2 k134 Q))))))
noncomputable def L_J26_putVal_134 (g : xm_G) (l0 : Nat) (l1 : Int32) (l2 : Option Nat) (l3 : Option Nat) (l4 : Int32) (l5 : Int32) (l6 : Option Nat) (Q : Option Nat → xm_H → Prop) (s : Option Nat × Int32 × xm_H × Nat × Nat) : Prop := xt_loop (D_J26_putVal_134 g l0 l1 l2 l3 l4 l5 l6 Q) s
noncomputable def B_J26_putVal_104 (g : xm_G) (l0 : Nat) (l1 : Int32) (l2 : Option Nat) (l3 : Option Nat) (l4 : Int32) (l5 : Int32) (l6 : Option Nat) (l7 : Option Nat) (h : xm_H) (bc : Nat) (bs : Nat) (Q : Option Nat → xm_H → Prop) : Prop :=
 xt_b (xh_inst "java/util/HashMap$TreeNode" h l7) (fun v49 =>
 (if v49 = 0 then
 L_J26_putVal_134 g l0 l1 l2 l3 l4 l5 l6 Q (l7, 0, h, bc, bs) else
 xt_b (xh_castY "java/util/HashMap$TreeNode" h l7) (fun _ =>
 False)))
noncomputable def B_J26_putVal_29 (g : xm_G) (l0 : Nat) (l1 : Int32) (l2 : Option Nat) (l3 : Option Nat) (l4 : Int32) (l5 : Int32) (l6 : Option Nat) (l8 : Int32) (h : xm_H) (bc : Nat) (bs : Nat) (Q : Option Nat → xm_H → Prop) : Prop :=
 xt_b l6 (fun a9 =>
 xt_b (xh_ar "java/util/HashMap$Node" h a9 ((l8 - 1) &&& l1)) (fun v10 =>
 (if v10 = none then
 xt_b (xh_ci h l0) (fun c11 =>
 (if c11 = 17 then
 xt_c bc bs (fun m12 m13 => F_J26_newNode g l0 l1 l2 l3 none h m12 m13 (fun v15 h14 =>
 xt_b (xh_sr "java/util/HashMap$Node" h14 a9 ((l8 - 1) &&& l1) v15) (fun h16 =>
 B_J26_putVal_259 g l0 l5 h16 (bc - m12) (bs - m13) Q))) else
 (if c11 = 18 then
 xt_c bc bs (fun m34 m35 => F_J27_newNode g l0 l1 l2 l3 none h m34 m35 (fun v37 h36 =>
 xt_b (xh_sr "java/util/HashMap$Node" h36 a9 ((l8 - 1) &&& l1) v37) (fun h38 =>
 B_J26_putVal_259 g l0 l5 h38 (bc - m34) (bs - m35) Q))) else
 False))) else
 xt_b v10 (fun a39 =>
 xt_b (xh_fi [(19, 0), (20, 0)] h a39) (fun v40 =>
 (if v40 = l1 then
 xt_b (xh_fr [(19, 1), (20, 1)] h a39) (fun v41 =>
 (if v41 = l2 then
 B_J26_putVal_97 g l0 l3 l4 l5 v10 h bc bs Q else
 (if l2 = none then
 B_J26_putVal_104 g l0 l1 l2 l3 l4 l5 l6 v10 h bc bs Q else
 xt_b l2 (fun a68 =>
 xt_b (xh_is 11 h a68) (fun _ =>
 xt_b (F_X13_equals g a68 v41 h) (fun v69 =>
 (if v69 = 0 then
 B_J26_putVal_104 g l0 l1 l2 l3 l4 l5 l6 v10 h bc bs Q else
 B_J26_putVal_97 g l0 l3 l4 l5 v10 h bc bs Q))))))) else
 B_J26_putVal_104 g l0 l1 l2 l3 l4 l5 l6 v10 h bc bs Q))))))
noncomputable def B_J26_putVal_19 (g : xm_G) (l0 : Nat) (l1 : Int32) (l2 : Option Nat) (l3 : Option Nat) (l4 : Int32) (l5 : Int32) (h : xm_H) (bc : Nat) (bs : Nat) (Q : Option Nat → xm_H → Prop) : Prop :=
 xt_b (xh_ci h l0) (fun c2 =>
 (if c2 = 17 then
 xt_c bc bs (fun m3 m4 => F_J26_resize g l0 h m3 m4 (fun v6 h5 =>
 xt_b v6 (fun a7 =>
 xt_b (xh_len h5 a7) (fun v8 =>
 B_J26_putVal_29 g l0 l1 l2 l3 l4 l5 v6 v8 h5 (bc - m3) (bs - m4) Q)))) else
 (if c2 = 18 then
 xt_c bc bs (fun m70 m71 => F_J26_resize g l0 h m70 m71 (fun v73 h72 =>
 xt_b v73 (fun a74 =>
 xt_b (xh_len h72 a74) (fun v75 =>
 B_J26_putVal_29 g l0 l1 l2 l3 l4 l5 v73 v75 h72 (bc - m70) (bs - m71) Q)))) else
 False)))
noncomputable def F_J26_putVal (g : xm_G) (p0 : Nat) (p1 : Int32) (p2 : Option Nat) (p3 : Option Nat) (p4 : Int32) (p5 : Int32) (h : xm_H) (bc : Nat) (bs : Nat) (Q : Option Nat → xm_H → Prop) : Prop :=
 xt_b (xh_fr [(17, 2), (18, 2)] h p0) (fun v1 =>
 (if v1 = none then
 B_J26_putVal_19 g p0 p1 p2 p3 p4 p5 h bc bs Q else
 xt_b v1 (fun a76 =>
 xt_b (xh_len h a76) (fun v77 =>
 (if v77 = 0 then
 B_J26_putVal_19 g p0 p1 p2 p3 p4 p5 h bc bs Q else
 B_J26_putVal_29 g p0 p1 p2 p3 p4 p5 v1 v77 h bc bs Q)))))
set_option maxHeartbeats 4000000 in
theorem K_J26_putVal {g : xm_G} (hG : xm_Gw g) (p0 : Nat) (p1 : Int32) (p2 : Option Nat) (p3 : Option Nat) (p4 : Int32) (p5 : Int32) (h : xm_H) (bc : Nat) (bs : Nat) {Q : Option Nat → xm_H → Prop} (e : F_J26_putVal g p0 p1 p2 p3 p4 p5 h bc bs Q) : xm_Run g M_J26_putVal 7 [.ref p0, .int p1, va_rf p2, va_rf p3, .int p4, .int p5] h bc bs (fun v h' => ∃ r, v = some (va_rf r) ∧ Q r h') xm_no := by
  refine xm_Run.of2 (ls := [some (.ref p0), some (.int p1), some (va_rf p2), some (va_rf p3), some (.int p4), some (.int p5), none, none, none, none, none, none, none]) pn_java_util_HashMap (by cases p2 <;> cases p3 <;> exact Nat.le_of_ble_eq_true rfl) (by cases p2 <;> cases p3 <;> rfl) (fun Γ hΓ => ?_)
  show xm_W g Γ 0 [some (.ref p0), some (.int p1), some (va_rf p2), some (va_rf p3), some (.int p4), some (.int p5), none, none, none, none, none, none, none] [] h bc bs
  have hB_292 : ∀ (l0 : Nat) (l5 : Int32) (h : xm_H) (bc : Nat) (bs : Nat), B_J26_putVal_292 g l0 l5 h bc bs Q → xm_W g Γ 292 [some (.ref l0), none, none, none, none, some (.int l5), none, none, none, none, none, none, none] [] h bc bs := by
    intro l0 l5 h bc bs e
    unfold B_J26_putVal_292 at e
    refine xw_ald (show xm_Imp g Γ 292 (xi_ald 0 293) from xs_aload_n hΓ dJ26_putVal_292) rfl ?_
    refine xw_ild (show xm_Imp g Γ 293 (xi_ild 5 295) from xs_iload hΓ dJ26_putVal_293) rfl ?_
    obtain ⟨c22, e0, e⟩ := e
    by_cases cc0 : c22 = 17
    · rw [if_pos cc0] at e
      obtain ⟨v23, e1, e⟩ := e
      refine xw_hu1 (o := (some l0)) (xm_or1 (show xm_Imp g Γ 295 (xi_or (xi_vir g 17 M_J26_afterNodeInsertion 1 1 298) (xi_vir g 18 M_J27_afterNodeInsertion 6 1 298)) from xs_or (xs_invV hG hΓ k_J26_afterNodeInsertion rfl (ci := 17) rfl q2710 q2711 q2712 dJ26_putVal_295) (xs_invO hG hΓ (owner := "java/util/HashMap") k_J27_afterNodeInsertion rfl (ci := 18) rfl q2710 q2713 q2711 q2715 q2714 q2721 ⟨by decide, by decide⟩ (by decide +kernel) dJ26_putVal_295))) rfl rfl (xh_is_of e0 cc0) (fun Q X hQ => K_J26_afterNodeInsertion hG l0 l5 _ e1 hQ) ?_
      refine xw_psh (v := .null) (show xm_Imp g Γ 298 (xi_psh .null 299) from xs_null hΓ dJ26_putVal_298) ?_
      exact xw_areto (show xm_Imp g Γ 299 (xi_aret _) from xs_areturn hΓ rfl (Or.inl ⟨_, rfl⟩) dJ26_putVal_299) ⟨_, rfl, e⟩
    rw [if_neg cc0] at e
    by_cases cc1 : c22 = 18
    · rw [if_pos cc1] at e
      obtain ⟨v24, e1, e⟩ := e
      refine xw_hu1 (o := (some l0)) (xm_or2 (show xm_Imp g Γ 295 (xi_or (xi_vir g 17 M_J26_afterNodeInsertion 1 1 298) (xi_vir g 18 M_J27_afterNodeInsertion 6 1 298)) from xs_or (xs_invV hG hΓ k_J26_afterNodeInsertion rfl (ci := 17) rfl q2710 q2711 q2712 dJ26_putVal_295) (xs_invO hG hΓ (owner := "java/util/HashMap") k_J27_afterNodeInsertion rfl (ci := 18) rfl q2710 q2713 q2711 q2715 q2714 q2721 ⟨by decide, by decide⟩ (by decide +kernel) dJ26_putVal_295))) rfl rfl (xh_is_of e0 cc1) (fun Q X hQ => K_J27_afterNodeInsertion hG l0 l5 _ e1 hQ) ?_
      refine xw_psh (v := .null) (show xm_Imp g Γ 298 (xi_psh .null 299) from xs_null hΓ dJ26_putVal_298) ?_
      exact xw_areto (show xm_Imp g Γ 299 (xi_aret _) from xs_areturn hΓ rfl (Or.inl ⟨_, rfl⟩) dJ26_putVal_299) ⟨_, rfl, e⟩
    rw [if_neg cc1] at e
    exact e.elim
  have hB_259 : ∀ (l0 : Nat) (l5 : Int32) (h : xm_H) (bc : Nat) (bs : Nat), B_J26_putVal_259 g l0 l5 h bc bs Q → xm_W g Γ 259 [some (.ref l0), none, none, none, none, some (.int l5), none, none, none, none, none, none, none] [] h bc bs := by
    intro l0 l5 h bc bs e
    unfold B_J26_putVal_259 at e
    refine xw_ald (show xm_Imp g Γ 259 (xi_ald 0 260) from xs_aload_n hΓ dJ26_putVal_259) rfl ?_
    refine xw_dup (show xm_Imp g Γ 260 (xi_dup 261) from xs_dup hΓ dJ26_putVal_260) rfl ?_
    obtain ⟨v17, e1, e⟩ := e
    refine xw_gi2 (o := (some l0)) (xm_or1 (show xm_Imp g Γ 261 (xi_or (xi_get 17 5 264) (xi_get 18 5 264)) from xs_or (xs_get hG hΓ (ci := 17) (kf := 5) rfl (Nat.le_of_ble_eq_true rfl) q2178 dJ26_putVal_261) (xs_get hG hΓ (ci := 18) (kf := 5) rfl (Nat.le_of_ble_eq_true rfl) q2178 dJ26_putVal_261))) (xm_or2 (show xm_Imp g Γ 261 (xi_or (xi_get 17 5 264) (xi_get 18 5 264)) from xs_or (xs_get hG hΓ (ci := 17) (kf := 5) rfl (Nat.le_of_ble_eq_true rfl) q2178 dJ26_putVal_261) (xs_get hG hΓ (ci := 18) (kf := 5) rfl (Nat.le_of_ble_eq_true rfl) q2178 dJ26_putVal_261))) rfl e1 ?_
    refine xw_psh (v := (.int (1))) (show xm_Imp g Γ 264 (xi_psh (.int (1)) 265) from xs_iconst hΓ dJ26_putVal_264 (by decide)) ?_
    refine xw_ii (show xm_Imp g Γ 265 (xi_ii (fun x y => x + y) 266) from xs_iadd hΓ dJ26_putVal_265) ?_
    obtain ⟨h18, e1, e⟩ := e
    refine xw_pt2 (o := (some l0)) (xm_or1 (show xm_Imp g Γ 266 (xi_or (xi_put 17 5 (.int) 269) (xi_put 18 5 (.int) 269)) from xs_or (xs_put hG hΓ (ci := 17) (kf := 5) rfl (Nat.le_of_ble_eq_true rfl) rfl (by decide +kernel) q2178 dJ26_putVal_266) (xs_put hG hΓ (ci := 18) (kf := 5) rfl (Nat.le_of_ble_eq_true rfl) rfl (by decide +kernel) q2178 dJ26_putVal_266))) (xm_or2 (show xm_Imp g Γ 266 (xi_or (xi_put 17 5 (.int) 269) (xi_put 18 5 (.int) 269)) from xs_or (xs_put hG hΓ (ci := 17) (kf := 5) rfl (Nat.le_of_ble_eq_true rfl) rfl (by decide +kernel) q2178 dJ26_putVal_266) (xs_put hG hΓ (ci := 18) (kf := 5) rfl (Nat.le_of_ble_eq_true rfl) rfl (by decide +kernel) q2178 dJ26_putVal_266))) rfl (xf_int _) e1 ?_
    refine xw_ald (show xm_Imp g Γ 269 (xi_ald 0 270) from xs_aload_n hΓ dJ26_putVal_269) rfl ?_
    refine xw_dup (show xm_Imp g Γ 270 (xi_dup 271) from xs_dup hΓ dJ26_putVal_270) rfl ?_
    obtain ⟨v19, e1, e⟩ := e
    refine xw_gi2 (o := (some l0)) (xm_or1 (show xm_Imp g Γ 271 (xi_or (xi_get 17 4 274) (xi_get 18 4 274)) from xs_or (xs_get hG hΓ (ci := 17) (kf := 4) rfl (Nat.le_of_ble_eq_true rfl) q2175 dJ26_putVal_271) (xs_get hG hΓ (ci := 18) (kf := 4) rfl (Nat.le_of_ble_eq_true rfl) q2175 dJ26_putVal_271))) (xm_or2 (show xm_Imp g Γ 271 (xi_or (xi_get 17 4 274) (xi_get 18 4 274)) from xs_or (xs_get hG hΓ (ci := 17) (kf := 4) rfl (Nat.le_of_ble_eq_true rfl) q2175 dJ26_putVal_271) (xs_get hG hΓ (ci := 18) (kf := 4) rfl (Nat.le_of_ble_eq_true rfl) q2175 dJ26_putVal_271))) rfl e1 ?_
    refine xw_psh (v := (.int (1))) (show xm_Imp g Γ 274 (xi_psh (.int (1)) 275) from xs_iconst hΓ dJ26_putVal_274 (by decide)) ?_
    refine xw_ii (show xm_Imp g Γ 275 (xi_ii (fun x y => x + y) 276) from xs_iadd hΓ dJ26_putVal_275) ?_
    refine xw_dup_x1 (show xm_Imp g Γ 276 (xi_dup_x1 277) from xs_dup_x1 hΓ dJ26_putVal_276) ⟨rfl, rfl⟩ ?_
    obtain ⟨h20, e1, e⟩ := e
    refine xw_pt2 (o := (some l0)) (xm_or1 (show xm_Imp g Γ 277 (xi_or (xi_put 17 4 (.int) 280) (xi_put 18 4 (.int) 280)) from xs_or (xs_put hG hΓ (ci := 17) (kf := 4) rfl (Nat.le_of_ble_eq_true rfl) rfl (by decide +kernel) q2175 dJ26_putVal_277) (xs_put hG hΓ (ci := 18) (kf := 4) rfl (Nat.le_of_ble_eq_true rfl) rfl (by decide +kernel) q2175 dJ26_putVal_277))) (xm_or2 (show xm_Imp g Γ 277 (xi_or (xi_put 17 4 (.int) 280) (xi_put 18 4 (.int) 280)) from xs_or (xs_put hG hΓ (ci := 17) (kf := 4) rfl (Nat.le_of_ble_eq_true rfl) rfl (by decide +kernel) q2175 dJ26_putVal_277) (xs_put hG hΓ (ci := 18) (kf := 4) rfl (Nat.le_of_ble_eq_true rfl) rfl (by decide +kernel) q2175 dJ26_putVal_277))) rfl (xf_int _) e1 ?_
    refine xw_ald (show xm_Imp g Γ 280 (xi_ald 0 281) from xs_aload_n hΓ dJ26_putVal_280) rfl ?_
    obtain ⟨v21, e1, e⟩ := e
    refine xw_gi2 (o := (some l0)) (xm_or1 (show xm_Imp g Γ 281 (xi_or (xi_get 17 6 284) (xi_get 18 6 284)) from xs_or (xs_get hG hΓ (ci := 17) (kf := 6) rfl (Nat.le_of_ble_eq_true rfl) q2179 dJ26_putVal_281) (xs_get hG hΓ (ci := 18) (kf := 6) rfl (Nat.le_of_ble_eq_true rfl) q2179 dJ26_putVal_281))) (xm_or2 (show xm_Imp g Γ 281 (xi_or (xi_get 17 6 284) (xi_get 18 6 284)) from xs_or (xs_get hG hΓ (ci := 17) (kf := 6) rfl (Nat.le_of_ble_eq_true rfl) q2179 dJ26_putVal_281) (xs_get hG hΓ (ci := 18) (kf := 6) rfl (Nat.le_of_ble_eq_true rfl) q2179 dJ26_putVal_281))) rfl e1 ?_
    refine xw_ic (show xm_Imp g Γ 284 (xi_ic (fun x y => x ≤ y) 292 287) from xs_icmp_le hΓ dJ26_putVal_284 (by decide)) (fun c => ?_) (fun c => ?_)
    · rw [if_pos c] at e
      exact hB_292 _ _ _ _ _ e
    · rw [if_neg c] at e
      refine xw_ald (show xm_Imp g Γ 287 (xi_ald 0 288) from xs_aload_n hΓ dJ26_putVal_287) rfl ?_
      obtain ⟨c25, e0, e⟩ := e
      by_cases cc0 : c25 = 17
      · rw [if_pos cc0] at e
        obtain ⟨m26, m27, ⟨em1, em2⟩, e⟩ := e
        refine xw_tvr0 (o := (some l0)) (xm_or1 (show xm_Imp g Γ 288 (xi_or (xi_vir g 17 M_J26_resize 1 0 291) (xi_vir g 18 M_J26_resize 1 0 291)) from xs_or (xs_invV hG hΓ k_J26_resize rfl (ci := 17) rfl q2283 q2284 q2285 dJ26_putVal_288) (xs_invU hG hΓ (owner := "java/util/HashMap") k_J26_resize rfl (ci := 18) rfl q2283 q2286 q2284 q2287 rfl ⟨by decide, by decide⟩ (by decide +kernel) dJ26_putVal_288))) rfl rfl (xh_is_of e0 cc0) em1 em2 (K_J26_resize hG l0 _ _ _ e) (fun v29 h28 e => ?_)
        refine xw_pop (show xm_Imp g Γ 291 (xi_pop 292) from xs_pop hΓ dJ26_putVal_291) (xm_c1_rf v29) ?_
        exact hB_292 _ _ _ _ _ e
      rw [if_neg cc0] at e
      by_cases cc1 : c25 = 18
      · rw [if_pos cc1] at e
        obtain ⟨m30, m31, ⟨em1, em2⟩, e⟩ := e
        refine xw_tvr0 (o := (some l0)) (xm_or2 (show xm_Imp g Γ 288 (xi_or (xi_vir g 17 M_J26_resize 1 0 291) (xi_vir g 18 M_J26_resize 1 0 291)) from xs_or (xs_invV hG hΓ k_J26_resize rfl (ci := 17) rfl q2283 q2284 q2285 dJ26_putVal_288) (xs_invU hG hΓ (owner := "java/util/HashMap") k_J26_resize rfl (ci := 18) rfl q2283 q2286 q2284 q2287 rfl ⟨by decide, by decide⟩ (by decide +kernel) dJ26_putVal_288))) rfl rfl (xh_is_of e0 cc1) em1 em2 (K_J26_resize hG l0 _ _ _ e) (fun v33 h32 e => ?_)
        refine xw_pop (show xm_Imp g Γ 291 (xi_pop 292) from xs_pop hΓ dJ26_putVal_291) (xm_c1_rf v33) ?_
        exact hB_292 _ _ _ _ _ e
      rw [if_neg cc1] at e
      exact e.elim
  have hB_250 : ∀ (l0 : Nat) (l10 : Option Nat) (l12 : Option Nat) (h : xm_H) (bc : Nat) (bs : Nat), B_J26_putVal_250 g l0 l10 l12 h bc bs Q → xm_W g Γ 250 [some (.ref l0), none, none, none, none, none, none, none, none, none, some (va_rf l10), none, some (va_rf l12)] [] h bc bs := by
    intro l0 l10 l12 h bc bs e
    unfold B_J26_putVal_250 at e
    refine xw_ald (show xm_Imp g Γ 250 (xi_ald 0 251) from xs_aload_n hΓ dJ26_putVal_250) rfl ?_
    refine xw_aldo (x := l10) (show xm_Imp g Γ 251 (xi_ald 10 253) from xs_aload hΓ dJ26_putVal_251) rfl ?_
    obtain ⟨c46, e0, e⟩ := e
    by_cases cc0 : c46 = 17
    · rw [if_pos cc0] at e
      obtain ⟨v47, e1, e⟩ := e
      refine xw_hu1 (o := (some l0)) (xm_or1 (show xm_Imp g Γ 253 (xi_or (xi_vir g 17 M_J26_afterNodeAccess 1 1 256) (xi_vir g 18 M_J27_afterNodeAccess 1 1 256)) from xs_or (xs_invV hG hΓ k_J26_afterNodeAccess rfl (ci := 17) rfl q2702 q2703 q2704 dJ26_putVal_253) (xs_invO hG hΓ (owner := "java/util/HashMap") k_J27_afterNodeAccess rfl (ci := 18) rfl q2702 q2705 q2703 q2707 q2706 q2709 ⟨by decide, by decide⟩ (by decide +kernel) dJ26_putVal_253))) rfl rfl (xh_is_of e0 cc0) (fun Q X hQ => K_J26_afterNodeAccess hG l0 l10 _ e1 hQ) ?_
      refine xw_aldo (x := l12) (show xm_Imp g Γ 256 (xi_ald 12 258) from xs_aload hΓ dJ26_putVal_256) rfl ?_
      exact xw_areto (show xm_Imp g Γ 258 (xi_aret _) from xs_areturn hΓ rfl (Or.inl ⟨_, rfl⟩) dJ26_putVal_258) ⟨_, rfl, e⟩
    rw [if_neg cc0] at e
    by_cases cc1 : c46 = 18
    · rw [if_pos cc1] at e
      obtain ⟨v48, e1, e⟩ := e
      refine xw_hu1 (o := (some l0)) (xm_or2 (show xm_Imp g Γ 253 (xi_or (xi_vir g 17 M_J26_afterNodeAccess 1 1 256) (xi_vir g 18 M_J27_afterNodeAccess 1 1 256)) from xs_or (xs_invV hG hΓ k_J26_afterNodeAccess rfl (ci := 17) rfl q2702 q2703 q2704 dJ26_putVal_253) (xs_invO hG hΓ (owner := "java/util/HashMap") k_J27_afterNodeAccess rfl (ci := 18) rfl q2702 q2705 q2703 q2707 q2706 q2709 ⟨by decide, by decide⟩ (by decide +kernel) dJ26_putVal_253))) rfl rfl (xh_is_of e0 cc1) (fun Q X hQ => K_J27_afterNodeAccess hG l0 l10 _ e1 hQ) ?_
      refine xw_aldo (x := l12) (show xm_Imp g Γ 256 (xi_ald 12 258) from xs_aload hΓ dJ26_putVal_256) rfl ?_
      exact xw_areto (show xm_Imp g Γ 258 (xi_aret _) from xs_areturn hΓ rfl (Or.inl ⟨_, rfl⟩) dJ26_putVal_258) ⟨_, rfl, e⟩
    rw [if_neg cc1] at e
    exact e.elim
  have hB_244 : ∀ (l0 : Nat) (l3 : Option Nat) (l10 : Option Nat) (l12 : Option Nat) (h : xm_H) (bc : Nat) (bs : Nat), B_J26_putVal_244 g l0 l3 l10 l12 h bc bs Q → xm_W g Γ 244 [some (.ref l0), none, none, some (va_rf l3), none, none, none, none, none, none, some (va_rf l10), none, some (va_rf l12)] [] h bc bs := by
    intro l0 l3 l10 l12 h bc bs e
    unfold B_J26_putVal_244 at e
    refine xw_aldo (x := l10) (show xm_Imp g Γ 244 (xi_ald 10 246) from xs_aload hΓ dJ26_putVal_244) rfl ?_
    refine xw_aldo (x := l3) (show xm_Imp g Γ 246 (xi_ald 3 247) from xs_aload_n hΓ dJ26_putVal_246) rfl ?_
    obtain ⟨a44, ha44, e⟩ := e
    obtain ⟨h45, e1, e⟩ := e
    refine xw_pt2 (o := l10) (xm_or1 (show xm_Imp g Γ 247 (xi_or (xi_put 19 2 (.object "java/lang/Object") 250) (xi_put 20 2 (.object "java/lang/Object") 250)) from xs_or (xs_put hG hΓ (ci := 19) (kf := 2) rfl (Nat.le_of_ble_eq_true rfl) rfl (by decide +kernel) q2337 dJ26_putVal_247) (xs_put hG hΓ (ci := 20) (kf := 2) rfl (Nat.le_of_ble_eq_true rfl) rfl (by decide +kernel) q2337 dJ26_putVal_247))) (xm_or2 (show xm_Imp g Γ 247 (xi_or (xi_put 19 2 (.object "java/lang/Object") 250) (xi_put 20 2 (.object "java/lang/Object") 250)) from xs_or (xs_put hG hΓ (ci := 19) (kf := 2) rfl (Nat.le_of_ble_eq_true rfl) rfl (by decide +kernel) q2337 dJ26_putVal_247) (xs_put hG hΓ (ci := 20) (kf := 2) rfl (Nat.le_of_ble_eq_true rfl) rfl (by decide +kernel) q2337 dJ26_putVal_247))) ha44 (xv_fit (Or.inl ⟨_, rfl⟩) l3) e1 ?_
    exact xm_lx (hB_250 _ _ _ _ _ _ e) (And.intro rfl (And.intro rfl (And.intro rfl (trivial))))
  have hB_222 : ∀ (l0 : Nat) (l3 : Option Nat) (l4 : Int32) (l5 : Int32) (l10 : Option Nat) (h : xm_H) (bc : Nat) (bs : Nat), B_J26_putVal_222 g l0 l3 l4 l5 l10 h bc bs Q → xm_W g Γ 222 [some (.ref l0), none, none, some (va_rf l3), some (.int l4), some (.int l5), none, none, none, none, some (va_rf l10), none, none] [] h bc bs := by
    intro l0 l3 l4 l5 l10 h bc bs e
    unfold B_J26_putVal_222 at e
    refine xw_aldo (x := l10) (show xm_Imp g Γ 222 (xi_ald 10 224) from xs_aload hΓ dJ26_putVal_222) rfl ?_
    refine xw_nul (o := l10) (show xm_Imp g Γ 224 (xi_nul 259 227) from xs_ifnull hΓ dJ26_putVal_224 (by decide)) (fun c => ?_) (fun c => ?_)
    · rw [if_pos c] at e
      exact xm_lx (hB_259 _ _ _ _ _ e) (And.intro rfl (And.intro rfl (trivial)))
    · rw [if_neg c] at e
      refine xw_aldo (x := l10) (show xm_Imp g Γ 227 (xi_ald 10 229) from xs_aload hΓ dJ26_putVal_227) rfl ?_
      obtain ⟨a42, ha42, e⟩ := e
      obtain ⟨v43, e1, e⟩ := e
      refine xw_gr2 (o := l10) (xm_or1 (show xm_Imp g Γ 229 (xi_or (xi_get 19 2 232) (xi_get 20 2 232)) from xs_or (xs_get hG hΓ (ci := 19) (kf := 2) rfl (Nat.le_of_ble_eq_true rfl) q2337 dJ26_putVal_229) (xs_get hG hΓ (ci := 20) (kf := 2) rfl (Nat.le_of_ble_eq_true rfl) q2337 dJ26_putVal_229))) (xm_or2 (show xm_Imp g Γ 229 (xi_or (xi_get 19 2 232) (xi_get 20 2 232)) from xs_or (xs_get hG hΓ (ci := 19) (kf := 2) rfl (Nat.le_of_ble_eq_true rfl) q2337 dJ26_putVal_229) (xs_get hG hΓ (ci := 20) (kf := 2) rfl (Nat.le_of_ble_eq_true rfl) q2337 dJ26_putVal_229))) ha42 e1 ?_
      refine xw_asto (x := v43) (ls' := [some (.ref l0), none, none, some (va_rf l3), some (.int l4), some (.int l5), none, none, none, none, some (va_rf l10), none, some (va_rf v43)]) (show xm_Imp g Γ 232 (xi_ast 12 234) from xs_astore hΓ dJ26_putVal_232 (Nat.le_of_ble_eq_true rfl)) rfl ?_
      refine xw_ild (show xm_Imp g Γ 234 (xi_ild 4 236) from xs_iload hΓ dJ26_putVal_234) rfl ?_
      refine xw_if (show xm_Imp g Γ 236 (xi_if (fun x => x = 0) 244 239) from xs_if_eq hΓ dJ26_putVal_236 (by decide)) (fun c => ?_) (fun c => ?_)
      · rw [if_pos c] at e
        exact xm_lx (hB_244 _ _ _ _ _ _ _ e) (And.intro rfl (And.intro rfl (And.intro rfl (And.intro rfl (trivial)))))
      · rw [if_neg c] at e
        refine xw_aldo (x := v43) (show xm_Imp g Γ 239 (xi_ald 12 241) from xs_aload hΓ dJ26_putVal_239) rfl ?_
        refine xw_nul (o := v43) (show xm_Imp g Γ 241 (xi_nul 244 250) from xs_ifnonnull hΓ dJ26_putVal_241 (by decide)) (fun c => ?_) (fun c => ?_)
        · rw [if_pos c] at e
          exact xm_lx (hB_244 _ _ _ _ _ _ _ e) (And.intro rfl (And.intro rfl (And.intro rfl (And.intro rfl (trivial)))))
        · rw [if_neg c] at e
          exact xm_lx (hB_250 _ _ _ _ _ _ e) (And.intro rfl (And.intro rfl (And.intro rfl (trivial))))
  have hB_97 : ∀ (l0 : Nat) (l3 : Option Nat) (l4 : Int32) (l5 : Int32) (l7 : Option Nat) (h : xm_H) (bc : Nat) (bs : Nat), B_J26_putVal_97 g l0 l3 l4 l5 l7 h bc bs Q → xm_W g Γ 97 [some (.ref l0), none, none, some (va_rf l3), some (.int l4), some (.int l5), none, some (va_rf l7), none, none, none, none, none] [] h bc bs := by
    intro l0 l3 l4 l5 l7 h bc bs e
    unfold B_J26_putVal_97 at e
    refine xw_aldo (x := l7) (show xm_Imp g Γ 97 (xi_ald 7 99) from xs_aload hΓ dJ26_putVal_97) rfl ?_
    refine xw_asto (x := l7) (ls' := [some (.ref l0), none, none, some (va_rf l3), some (.int l4), some (.int l5), none, some (va_rf l7), none, none, some (va_rf l7), none, none]) (show xm_Imp g Γ 99 (xi_ast 10 101) from xs_astore hΓ dJ26_putVal_99 (Nat.le_of_ble_eq_true rfl)) rfl ?_
    refine xw_goto (show xm_Imp g Γ 101 (xi_goto 222) from xs_goto hΓ dJ26_putVal_101 (by decide)) ?_
    exact xm_lx (hB_222 _ _ _ _ _ _ _ _ e) (And.intro rfl (And.intro rfl (And.intro rfl (And.intro rfl (And.intro rfl (trivial))))))
  have hL_134 : ∀ (l0 : Nat) (l1 : Int32) (l2 : Option Nat) (l3 : Option Nat) (l4 : Int32) (l5 : Int32) (l6 : Option Nat) (s : Option Nat × Int32 × xm_H × Nat × Nat), L_J26_putVal_134 g l0 l1 l2 l3 l4 l5 l6 Q s → xm_W g Γ 134 [some (.ref l0), some (.int l1), some (va_rf l2), some (va_rf l3), some (.int l4), some (.int l5), some (va_rf l6), some (va_rf s.1), none, none, none, none, some (.int s.2.1)] [] s.2.2.1 s.2.2.2.1 s.2.2.2.2 := by
    intro l0 l1 l2 l3 l4 l5 l6
    refine xt_rule (WS := fun s : Option Nat × Int32 × xm_H × Nat × Nat => xm_W g Γ 134 [some (.ref l0), some (.int l1), some (va_rf l2), some (va_rf l3), some (.int l4), some (.int l5), some (va_rf l6), some (va_rf s.1), none, none, none, none, some (.int s.2.1)] [] s.2.2.1 s.2.2.2.1 s.2.2.2.2) ?_
    intro k134 hk134 s e
    have hB_212 : ∀ (l10 : Option Nat) (l12 : Int32) (h : xm_H) (bc : Nat) (bs : Nat), B_J26_putVal_212 g l0 l1 l2 l3 l4 l5 l6 l10 l12 h bc bs k134 Q → xm_W g Γ 212 [some (.ref l0), some (.int l1), some (va_rf l2), some (va_rf l3), some (.int l4), some (.int l5), some (va_rf l6), none, none, none, some (va_rf l10), none, some (.int l12)] [] h bc bs := by
      intro l10 l12 h bc bs e
      unfold B_J26_putVal_212 at e
      refine xw_aldo (x := l10) (show xm_Imp g Γ 212 (xi_ald 10 214) from xs_aload hΓ dJ26_putVal_212) rfl ?_
      refine xw_asto (x := l10) (ls' := [some (.ref l0), some (.int l1), some (va_rf l2), some (va_rf l3), some (.int l4), some (.int l5), some (va_rf l6), some (va_rf l10), none, none, some (va_rf l10), none, some (.int l12)]) (show xm_Imp g Γ 214 (xi_ast 7 216) from xs_astore hΓ dJ26_putVal_214 (Nat.le_of_ble_eq_true rfl)) ((xm_s1_o (o := l6) rfl).trans rfl) ?_
      refine xw_inc (v := (1)) (ls' := [some (.ref l0), some (.int l1), some (va_rf l2), some (va_rf l3), some (.int l4), some (.int l5), some (va_rf l6), some (va_rf l10), none, none, some (va_rf l10), none, some (.int (l12 + 1))]) (show xm_Imp g Γ 216 (xi_inc 12 (1) 219) from xs_iinc hΓ dJ26_putVal_216 (by decide) (Nat.le_of_ble_eq_true rfl)) rfl rfl ?_
      refine xw_goto (show xm_Imp g Γ 219 (xi_goto 134) from xs_goto hΓ dJ26_putVal_219 (by decide)) ?_
      have hq := hk134 _ e; exact xm_lx (hq) (And.intro rfl (And.intro rfl (And.intro rfl (And.intro rfl (And.intro rfl (And.intro rfl (And.intro rfl (And.intro rfl (And.intro rfl (trivial))))))))))
    unfold D_J26_putVal_134 at e
    refine xw_aldo (x := s.1) (show xm_Imp g Γ 134 (xi_ald 7 136) from xs_aload hΓ dJ26_putVal_134) rfl ?_
    obtain ⟨a50, ha50, e⟩ := e
    obtain ⟨v51, e1, e⟩ := e
    refine xw_gr2 (o := s.1) (xm_or1 (show xm_Imp g Γ 136 (xi_or (xi_get 19 3 139) (xi_get 20 3 139)) from xs_or (xs_get hG hΓ (ci := 19) (kf := 3) rfl (Nat.le_of_ble_eq_true rfl) q2343 dJ26_putVal_136) (xs_get hG hΓ (ci := 20) (kf := 3) rfl (Nat.le_of_ble_eq_true rfl) q2343 dJ26_putVal_136))) (xm_or2 (show xm_Imp g Γ 136 (xi_or (xi_get 19 3 139) (xi_get 20 3 139)) from xs_or (xs_get hG hΓ (ci := 19) (kf := 3) rfl (Nat.le_of_ble_eq_true rfl) q2343 dJ26_putVal_136) (xs_get hG hΓ (ci := 20) (kf := 3) rfl (Nat.le_of_ble_eq_true rfl) q2343 dJ26_putVal_136))) ha50 e1 ?_
    refine xw_dup (show xm_Imp g Γ 139 (xi_dup 140) from xs_dup hΓ dJ26_putVal_139) (xm_c1_rf v51) ?_
    refine xw_asto (x := v51) (ls' := [some (.ref l0), some (.int l1), some (va_rf l2), some (va_rf l3), some (.int l4), some (.int l5), some (va_rf l6), some (va_rf s.1), none, none, some (va_rf v51), none, some (.int s.2.1)]) (show xm_Imp g Γ 140 (xi_ast 10 142) from xs_astore hΓ dJ26_putVal_140 (Nat.le_of_ble_eq_true rfl)) rfl ?_
    refine xw_nul (o := v51) (show xm_Imp g Γ 142 (xi_nul 145 175) from xs_ifnonnull hΓ dJ26_putVal_142 (by decide)) (fun c => ?_) (fun c => ?_)
    · rw [if_pos c] at e
      refine xw_aldo (x := s.1) (show xm_Imp g Γ 145 (xi_ald 7 147) from xs_aload hΓ dJ26_putVal_145) rfl ?_
      refine xw_ald (show xm_Imp g Γ 147 (xi_ald 0 148) from xs_aload_n hΓ dJ26_putVal_147) rfl ?_
      refine xw_ild (show xm_Imp g Γ 148 (xi_ild 1 149) from xs_iload_n hΓ dJ26_putVal_148) rfl ?_
      refine xw_aldo (x := l2) (show xm_Imp g Γ 149 (xi_ald 2 150) from xs_aload_n hΓ dJ26_putVal_149) rfl ?_
      refine xw_aldo (x := l3) (show xm_Imp g Γ 150 (xi_ald 3 151) from xs_aload_n hΓ dJ26_putVal_150) rfl ?_
      refine xw_psh (v := .null) (show xm_Imp g Γ 151 (xi_psh .null 152) from xs_null hΓ dJ26_putVal_151) ?_
      obtain ⟨c52, e0, e⟩ := e
      by_cases cc0 : c52 = 17
      · rw [if_pos cc0] at e
        obtain ⟨m53, m54, ⟨em1, em2⟩, e⟩ := e
        refine xw_tvr4 (o := (some l0)) (xm_or1 (show xm_Imp g Γ 152 (xi_or (xi_vir g 17 M_J26_newNode 3 4 155) (xi_vir g 18 M_J27_newNode 4 4 155)) from xs_or (xs_invV hG hΓ k_J26_newNode rfl (ci := 17) rfl q2588 q2589 q2590 dJ26_putVal_152) (xs_invO hG hΓ (owner := "java/util/HashMap") k_J27_newNode rfl (ci := 18) rfl q2588 q2591 q2589 q2593 q2592 q2599 ⟨by decide, by decide⟩ (by decide +kernel) dJ26_putVal_152))) (by simp [xm_stk, xv_cat, xc_int, xc_long, xc_float, xc_double, xc_ref]) rfl (xh_is_of e0 cc0) em1 em2 (K_J26_newNode hG l0 l1 l2 l3 none _ _ _ e) (fun v56 h55 e => ?_)
        obtain ⟨h57, e1, e⟩ := e
        refine xw_pt2 (o := s.1) (xm_or1 (show xm_Imp g Γ 155 (xi_or (xi_put 19 3 (.object "java/util/HashMap$Node") 158) (xi_put 20 3 (.object "java/util/HashMap$Node") 158)) from xs_or (xs_put hG hΓ (ci := 19) (kf := 3) rfl (Nat.le_of_ble_eq_true rfl) rfl (by decide +kernel) q2343 dJ26_putVal_155) (xs_put hG hΓ (ci := 20) (kf := 3) rfl (Nat.le_of_ble_eq_true rfl) rfl (by decide +kernel) q2343 dJ26_putVal_155))) (xm_or2 (show xm_Imp g Γ 155 (xi_or (xi_put 19 3 (.object "java/util/HashMap$Node") 158) (xi_put 20 3 (.object "java/util/HashMap$Node") 158)) from xs_or (xs_put hG hΓ (ci := 19) (kf := 3) rfl (Nat.le_of_ble_eq_true rfl) rfl (by decide +kernel) q2343 dJ26_putVal_155) (xs_put hG hΓ (ci := 20) (kf := 3) rfl (Nat.le_of_ble_eq_true rfl) rfl (by decide +kernel) q2343 dJ26_putVal_155))) ha50 (xv_fit (Or.inl ⟨_, rfl⟩) v56) e1 ?_
        refine xw_ild (show xm_Imp g Γ 158 (xi_ild 12 160) from xs_iload hΓ dJ26_putVal_158) rfl ?_
        refine xw_psh (v := (.int (7))) (show xm_Imp g Γ 160 (xi_psh (.int (7)) 162) from xs_bipush hΓ dJ26_putVal_160 (by decide)) ?_
        refine xw_ic (show xm_Imp g Γ 162 (xi_ic (fun x y => x < y) 222 165) from xs_icmp_lt hΓ dJ26_putVal_162 (by decide)) (fun c => ?_) (fun c => ?_)
        · rw [if_pos c] at e
          exact xm_lx (hB_222 _ _ _ _ _ _ _ _ e) (And.intro rfl (And.intro rfl (And.intro rfl (And.intro rfl (And.intro rfl (trivial))))))
        · rw [if_neg c] at e
          refine xw_ald (show xm_Imp g Γ 165 (xi_ald 0 166) from xs_aload_n hΓ dJ26_putVal_165) rfl ?_
          refine xw_aldo (x := l6) (show xm_Imp g Γ 166 (xi_ald 6 168) from xs_aload hΓ dJ26_putVal_166) rfl ?_
          refine xw_ild (show xm_Imp g Γ 168 (xi_ild 1 169) from xs_iload_n hΓ dJ26_putVal_168) rfl ?_
          exact e.elim
      rw [if_neg cc0] at e
      by_cases cc1 : c52 = 18
      · rw [if_pos cc1] at e
        obtain ⟨m58, m59, ⟨em1, em2⟩, e⟩ := e
        refine xw_tvr4 (o := (some l0)) (xm_or2 (show xm_Imp g Γ 152 (xi_or (xi_vir g 17 M_J26_newNode 3 4 155) (xi_vir g 18 M_J27_newNode 4 4 155)) from xs_or (xs_invV hG hΓ k_J26_newNode rfl (ci := 17) rfl q2588 q2589 q2590 dJ26_putVal_152) (xs_invO hG hΓ (owner := "java/util/HashMap") k_J27_newNode rfl (ci := 18) rfl q2588 q2591 q2589 q2593 q2592 q2599 ⟨by decide, by decide⟩ (by decide +kernel) dJ26_putVal_152))) (by simp [xm_stk, xv_cat, xc_int, xc_long, xc_float, xc_double, xc_ref]) rfl (xh_is_of e0 cc1) em1 em2 (K_J27_newNode hG l0 l1 l2 l3 none _ _ _ e) (fun v61 h60 e => ?_)
        obtain ⟨h62, e1, e⟩ := e
        refine xw_pt2 (o := s.1) (xm_or1 (show xm_Imp g Γ 155 (xi_or (xi_put 19 3 (.object "java/util/HashMap$Node") 158) (xi_put 20 3 (.object "java/util/HashMap$Node") 158)) from xs_or (xs_put hG hΓ (ci := 19) (kf := 3) rfl (Nat.le_of_ble_eq_true rfl) rfl (by decide +kernel) q2343 dJ26_putVal_155) (xs_put hG hΓ (ci := 20) (kf := 3) rfl (Nat.le_of_ble_eq_true rfl) rfl (by decide +kernel) q2343 dJ26_putVal_155))) (xm_or2 (show xm_Imp g Γ 155 (xi_or (xi_put 19 3 (.object "java/util/HashMap$Node") 158) (xi_put 20 3 (.object "java/util/HashMap$Node") 158)) from xs_or (xs_put hG hΓ (ci := 19) (kf := 3) rfl (Nat.le_of_ble_eq_true rfl) rfl (by decide +kernel) q2343 dJ26_putVal_155) (xs_put hG hΓ (ci := 20) (kf := 3) rfl (Nat.le_of_ble_eq_true rfl) rfl (by decide +kernel) q2343 dJ26_putVal_155))) ha50 (xv_fit (Or.inl ⟨_, rfl⟩) v61) e1 ?_
        refine xw_ild (show xm_Imp g Γ 158 (xi_ild 12 160) from xs_iload hΓ dJ26_putVal_158) rfl ?_
        refine xw_psh (v := (.int (7))) (show xm_Imp g Γ 160 (xi_psh (.int (7)) 162) from xs_bipush hΓ dJ26_putVal_160 (by decide)) ?_
        refine xw_ic (show xm_Imp g Γ 162 (xi_ic (fun x y => x < y) 222 165) from xs_icmp_lt hΓ dJ26_putVal_162 (by decide)) (fun c => ?_) (fun c => ?_)
        · rw [if_pos c] at e
          exact xm_lx (hB_222 _ _ _ _ _ _ _ _ e) (And.intro rfl (And.intro rfl (And.intro rfl (And.intro rfl (And.intro rfl (trivial))))))
        · rw [if_neg c] at e
          refine xw_ald (show xm_Imp g Γ 165 (xi_ald 0 166) from xs_aload_n hΓ dJ26_putVal_165) rfl ?_
          refine xw_aldo (x := l6) (show xm_Imp g Γ 166 (xi_ald 6 168) from xs_aload hΓ dJ26_putVal_166) rfl ?_
          refine xw_ild (show xm_Imp g Γ 168 (xi_ild 1 169) from xs_iload_n hΓ dJ26_putVal_168) rfl ?_
          exact e.elim
      rw [if_neg cc1] at e
      exact e.elim
    · rw [if_neg c] at e
      refine xw_aldo (x := v51) (show xm_Imp g Γ 175 (xi_ald 10 177) from xs_aload hΓ dJ26_putVal_175) rfl ?_
      obtain ⟨a63, ha63, e⟩ := e
      obtain ⟨v64, e1, e⟩ := e
      refine xw_gi2 (o := v51) (xm_or1 (show xm_Imp g Γ 177 (xi_or (xi_get 19 0 180) (xi_get 20 0 180)) from xs_or (xs_get hG hΓ (ci := 19) (kf := 0) rfl (Nat.le_of_ble_eq_true rfl) q2327 dJ26_putVal_177) (xs_get hG hΓ (ci := 20) (kf := 0) rfl (Nat.le_of_ble_eq_true rfl) q2327 dJ26_putVal_177))) (xm_or2 (show xm_Imp g Γ 177 (xi_or (xi_get 19 0 180) (xi_get 20 0 180)) from xs_or (xs_get hG hΓ (ci := 19) (kf := 0) rfl (Nat.le_of_ble_eq_true rfl) q2327 dJ26_putVal_177) (xs_get hG hΓ (ci := 20) (kf := 0) rfl (Nat.le_of_ble_eq_true rfl) q2327 dJ26_putVal_177))) ha63 e1 ?_
      refine xw_ild (show xm_Imp g Γ 180 (xi_ild 1 181) from xs_iload_n hΓ dJ26_putVal_180) rfl ?_
      refine xw_ic (show xm_Imp g Γ 181 (xi_ic (fun x y => x = y) 184 212) from xs_icmp_ne hΓ dJ26_putVal_181 (by decide)) (fun c => ?_) (fun c => ?_)
      · rw [if_pos c] at e
        refine xw_aldo (x := v51) (show xm_Imp g Γ 184 (xi_ald 10 186) from xs_aload hΓ dJ26_putVal_184) rfl ?_
        obtain ⟨v65, e1, e⟩ := e
        refine xw_gr2 (o := v51) (xm_or1 (show xm_Imp g Γ 186 (xi_or (xi_get 19 1 189) (xi_get 20 1 189)) from xs_or (xs_get hG hΓ (ci := 19) (kf := 1) rfl (Nat.le_of_ble_eq_true rfl) q2333 dJ26_putVal_186) (xs_get hG hΓ (ci := 20) (kf := 1) rfl (Nat.le_of_ble_eq_true rfl) q2333 dJ26_putVal_186))) (xm_or2 (show xm_Imp g Γ 186 (xi_or (xi_get 19 1 189) (xi_get 20 1 189)) from xs_or (xs_get hG hΓ (ci := 19) (kf := 1) rfl (Nat.le_of_ble_eq_true rfl) q2333 dJ26_putVal_186) (xs_get hG hΓ (ci := 20) (kf := 1) rfl (Nat.le_of_ble_eq_true rfl) q2333 dJ26_putVal_186))) ha63 e1 ?_
        refine xw_dup (show xm_Imp g Γ 189 (xi_dup 190) from xs_dup hΓ dJ26_putVal_189) (xm_c1_rf v65) ?_
        refine xw_asto (x := v65) (ls' := [some (.ref l0), some (.int l1), some (va_rf l2), some (va_rf l3), some (.int l4), some (.int l5), some (va_rf l6), some (va_rf s.1), none, none, some (va_rf v51), some (va_rf v65), some (.int s.2.1)]) (show xm_Imp g Γ 190 (xi_ast 11 192) from xs_astore hΓ dJ26_putVal_190 (Nat.le_of_ble_eq_true rfl)) ((xm_s1_o (o := v51) rfl).trans rfl) ?_
        refine xw_aldo (x := l2) (show xm_Imp g Γ 192 (xi_ald 2 193) from xs_aload_n hΓ dJ26_putVal_192) rfl ?_
        refine xw_acm (o := v65) (o2 := l2) (show xm_Imp g Γ 193 (xi_acm 222 196) from xs_acmp_eq hΓ dJ26_putVal_193 (by decide)) (fun c => ?_) (fun c => ?_)
        · rw [if_pos c] at e
          exact xm_lx (hB_222 _ _ _ _ _ _ _ _ e) (And.intro rfl (And.intro rfl (And.intro rfl (And.intro rfl (And.intro rfl (trivial))))))
        · rw [if_neg c] at e
          refine xw_aldo (x := l2) (show xm_Imp g Γ 196 (xi_ald 2 197) from xs_aload_n hΓ dJ26_putVal_196) rfl ?_
          refine xw_nul (o := l2) (show xm_Imp g Γ 197 (xi_nul 212 200) from xs_ifnull hΓ dJ26_putVal_197 (by decide)) (fun c => ?_) (fun c => ?_)
          · rw [if_pos c] at e
            exact xm_lx (hB_212 _ _ _ _ _ e) (And.intro rfl (And.intro rfl (And.intro rfl (And.intro rfl (And.intro rfl (And.intro rfl (And.intro rfl (And.intro rfl (And.intro rfl (trivial))))))))))
          · rw [if_neg c] at e
            refine xw_aldo (x := l2) (show xm_Imp g Γ 200 (xi_ald 2 201) from xs_aload_n hΓ dJ26_putVal_200) rfl ?_
            refine xw_aldo (x := v65) (show xm_Imp g Γ 201 (xi_ald 11 203) from xs_aload hΓ dJ26_putVal_201) rfl ?_
            obtain ⟨a66, ha66, e⟩ := e
            obtain ⟨_, e0, e⟩ := e
            obtain ⟨v67, e1, e⟩ := e
            refine xw_hv1 (o := l2) (show xm_Imp g Γ 203 (xi_vir g 11 M_X13_equals 1 1 206) from xs_invA hG hΓ (owner := "java/lang/Object") k_X13_equals rfl (ci := 11) rfl q2601 q2603 q2615 q2614 q2600 ⟨by decide, by decide⟩ (by decide +kernel) dJ26_putVal_203) (by simp [xm_stk, xv_cat, xc_int, xc_long, xc_float, xc_double, xc_ref]) ha66 e0 (fun Q X hQ => K_X13_equals hG a66 v65 _ e1 hQ) ?_
            refine xw_if (show xm_Imp g Γ 206 (xi_if (fun x => x = 0) 212 209) from xs_if_eq hΓ dJ26_putVal_206 (by decide)) (fun c => ?_) (fun c => ?_)
            · rw [if_pos c] at e
              exact xm_lx (hB_212 _ _ _ _ _ e) (And.intro rfl (And.intro rfl (And.intro rfl (And.intro rfl (And.intro rfl (And.intro rfl (And.intro rfl (And.intro rfl (And.intro rfl (trivial))))))))))
            · rw [if_neg c] at e
              refine xw_goto (show xm_Imp g Γ 209 (xi_goto 222) from xs_goto hΓ dJ26_putVal_209 (by decide)) ?_
              exact xm_lx (hB_222 _ _ _ _ _ _ _ _ e) (And.intro rfl (And.intro rfl (And.intro rfl (And.intro rfl (And.intro rfl (trivial))))))
      · rw [if_neg c] at e
        exact xm_lx (hB_212 _ _ _ _ _ e) (And.intro rfl (And.intro rfl (And.intro rfl (And.intro rfl (And.intro rfl (And.intro rfl (And.intro rfl (And.intro rfl (And.intro rfl (trivial))))))))))
  have hB_104 : ∀ (l0 : Nat) (l1 : Int32) (l2 : Option Nat) (l3 : Option Nat) (l4 : Int32) (l5 : Int32) (l6 : Option Nat) (l7 : Option Nat) (h : xm_H) (bc : Nat) (bs : Nat), B_J26_putVal_104 g l0 l1 l2 l3 l4 l5 l6 l7 h bc bs Q → xm_W g Γ 104 [some (.ref l0), some (.int l1), some (va_rf l2), some (va_rf l3), some (.int l4), some (.int l5), some (va_rf l6), some (va_rf l7), none, none, none, none, none] [] h bc bs := by
    intro l0 l1 l2 l3 l4 l5 l6 l7 h bc bs e
    unfold B_J26_putVal_104 at e
    refine xw_aldo (x := l7) (show xm_Imp g Γ 104 (xi_ald 7 106) from xs_aload hΓ dJ26_putVal_104) rfl ?_
    obtain ⟨v49, e1, e⟩ := e
    refine xw_inst (o := l7) (show xm_Imp g Γ 106 (xi_inst "java/util/HashMap$TreeNode" 109) from xs_inst hG hΓ q2294 dJ26_putVal_106) e1 ?_
    refine xw_if (show xm_Imp g Γ 109 (xi_if (fun x => x = 0) 131 112) from xs_if_eq hΓ dJ26_putVal_109 (by decide)) (fun c => ?_) (fun c => ?_)
    · rw [if_pos c] at e
      refine xw_psh (v := (.int (0))) (show xm_Imp g Γ 131 (xi_psh (.int (0)) 132) from xs_iconst hΓ dJ26_putVal_131 (by decide)) ?_
      refine xw_ist (ls' := [some (.ref l0), some (.int l1), some (va_rf l2), some (va_rf l3), some (.int l4), some (.int l5), some (va_rf l6), some (va_rf l7), none, none, none, none, some (.int 0)]) (show xm_Imp g Γ 132 (xi_ist 12 134) from xs_istore hΓ dJ26_putVal_132 (Nat.le_of_ble_eq_true rfl)) rfl ?_
      exact hL_134 _ _ _ _ _ _ _ _ e
    · rw [if_neg c] at e
      refine xw_aldo (x := l7) (show xm_Imp g Γ 112 (xi_ald 7 114) from xs_aload hΓ dJ26_putVal_112) rfl ?_
      obtain ⟨_, e1, e⟩ := e
      refine xw_castY (o := l7) (show xm_Imp g Γ 114 (xi_castY "java/util/HashMap$TreeNode" 117) from xs_castY hG hΓ q2294 dJ26_putVal_114) e1 ?_
      refine xw_ald (show xm_Imp g Γ 117 (xi_ald 0 118) from xs_aload_n hΓ dJ26_putVal_117) rfl ?_
      refine xw_aldo (x := l6) (show xm_Imp g Γ 118 (xi_ald 6 120) from xs_aload hΓ dJ26_putVal_118) rfl ?_
      refine xw_ild (show xm_Imp g Γ 120 (xi_ild 1 121) from xs_iload_n hΓ dJ26_putVal_120) rfl ?_
      refine xw_aldo (x := l2) (show xm_Imp g Γ 121 (xi_ald 2 122) from xs_aload_n hΓ dJ26_putVal_121) rfl ?_
      refine xw_aldo (x := l3) (show xm_Imp g Γ 122 (xi_ald 3 123) from xs_aload_n hΓ dJ26_putVal_122) rfl ?_
      exact e.elim
  have hB_29 : ∀ (l0 : Nat) (l1 : Int32) (l2 : Option Nat) (l3 : Option Nat) (l4 : Int32) (l5 : Int32) (l6 : Option Nat) (l8 : Int32) (h : xm_H) (bc : Nat) (bs : Nat), B_J26_putVal_29 g l0 l1 l2 l3 l4 l5 l6 l8 h bc bs Q → xm_W g Γ 29 [some (.ref l0), some (.int l1), some (va_rf l2), some (va_rf l3), some (.int l4), some (.int l5), some (va_rf l6), none, some (.int l8), none, none, none, none] [] h bc bs := by
    intro l0 l1 l2 l3 l4 l5 l6 l8 h bc bs e
    unfold B_J26_putVal_29 at e
    refine xw_aldo (x := l6) (show xm_Imp g Γ 29 (xi_ald 6 31) from xs_aload hΓ dJ26_putVal_29) rfl ?_
    refine xw_ild (show xm_Imp g Γ 31 (xi_ild 8 33) from xs_iload hΓ dJ26_putVal_31) rfl ?_
    refine xw_psh (v := (.int (1))) (show xm_Imp g Γ 33 (xi_psh (.int (1)) 34) from xs_iconst hΓ dJ26_putVal_33 (by decide)) ?_
    refine xw_ii (show xm_Imp g Γ 34 (xi_ii (fun x y => x - y) 35) from xs_isub hΓ dJ26_putVal_34) ?_
    refine xw_ild (show xm_Imp g Γ 35 (xi_ild 1 36) from xs_iload_n hΓ dJ26_putVal_35) rfl ?_
    refine xw_ii (show xm_Imp g Γ 36 (xi_ii (fun x y => x &&& y) 37) from xs_iand hΓ dJ26_putVal_36) ?_
    refine xw_dup (show xm_Imp g Γ 37 (xi_dup 38) from xs_dup hΓ dJ26_putVal_37) rfl ?_
    refine xw_ist (ls' := [some (.ref l0), some (.int l1), some (va_rf l2), some (va_rf l3), some (.int l4), some (.int l5), some (va_rf l6), none, some (.int l8), some (.int ((l8 - 1) &&& l1)), none, none, none]) (show xm_Imp g Γ 38 (xi_ist 9 40) from xs_istore hΓ dJ26_putVal_38 (Nat.le_of_ble_eq_true rfl)) rfl ?_
    obtain ⟨a9, ha9, e⟩ := e
    obtain ⟨v10, e1, e⟩ := e
    refine xw_haal (o := l6) (show xm_Imp g Γ 40 (xi_aal "java/util/HashMap$Node" 41) from xs_aal hG hΓ dJ26_putVal_40) ha9 e1 ?_
    refine xw_dup (show xm_Imp g Γ 41 (xi_dup 42) from xs_dup hΓ dJ26_putVal_41) (xm_c1_rf v10) ?_
    refine xw_asto (x := v10) (ls' := [some (.ref l0), some (.int l1), some (va_rf l2), some (va_rf l3), some (.int l4), some (.int l5), some (va_rf l6), some (va_rf v10), some (.int l8), some (.int ((l8 - 1) &&& l1)), none, none, none]) (show xm_Imp g Γ 42 (xi_ast 7 44) from xs_astore hΓ dJ26_putVal_42 (Nat.le_of_ble_eq_true rfl)) ((xm_s1_o (o := l6) rfl).trans rfl) ?_
    refine xw_nul (o := v10) (show xm_Imp g Γ 44 (xi_nul 47 63) from xs_ifnonnull hΓ dJ26_putVal_44 (by decide)) (fun c => ?_) (fun c => ?_)
    · rw [if_pos c] at e
      refine xw_aldo (x := l6) (show xm_Imp g Γ 47 (xi_ald 6 49) from xs_aload hΓ dJ26_putVal_47) rfl ?_
      refine xw_ild (show xm_Imp g Γ 49 (xi_ild 9 51) from xs_iload hΓ dJ26_putVal_49) rfl ?_
      refine xw_ald (show xm_Imp g Γ 51 (xi_ald 0 52) from xs_aload_n hΓ dJ26_putVal_51) rfl ?_
      refine xw_ild (show xm_Imp g Γ 52 (xi_ild 1 53) from xs_iload_n hΓ dJ26_putVal_52) rfl ?_
      refine xw_aldo (x := l2) (show xm_Imp g Γ 53 (xi_ald 2 54) from xs_aload_n hΓ dJ26_putVal_53) rfl ?_
      refine xw_aldo (x := l3) (show xm_Imp g Γ 54 (xi_ald 3 55) from xs_aload_n hΓ dJ26_putVal_54) rfl ?_
      refine xw_psh (v := .null) (show xm_Imp g Γ 55 (xi_psh .null 56) from xs_null hΓ dJ26_putVal_55) ?_
      obtain ⟨c11, e0, e⟩ := e
      by_cases cc0 : c11 = 17
      · rw [if_pos cc0] at e
        obtain ⟨m12, m13, ⟨em1, em2⟩, e⟩ := e
        refine xw_tvr4 (o := (some l0)) (xm_or1 (show xm_Imp g Γ 56 (xi_or (xi_vir g 17 M_J26_newNode 3 4 59) (xi_vir g 18 M_J27_newNode 4 4 59)) from xs_or (xs_invV hG hΓ k_J26_newNode rfl (ci := 17) rfl q2588 q2589 q2590 dJ26_putVal_56) (xs_invO hG hΓ (owner := "java/util/HashMap") k_J27_newNode rfl (ci := 18) rfl q2588 q2591 q2589 q2593 q2592 q2599 ⟨by decide, by decide⟩ (by decide +kernel) dJ26_putVal_56))) (by simp [xm_stk, xv_cat, xc_int, xc_long, xc_float, xc_double, xc_ref]) rfl (xh_is_of e0 cc0) em1 em2 (K_J26_newNode hG l0 l1 l2 l3 none _ _ _ e) (fun v15 h14 e => ?_)
        obtain ⟨h16, e1, e⟩ := e
        refine xw_haas (o := l6) (v := v15) (show xm_Imp g Γ 59 (xi_aas "java/util/HashMap$Node" 60) from xs_aas hG hΓ dJ26_putVal_59) ha9 e1 ?_
        refine xw_goto (show xm_Imp g Γ 60 (xi_goto 259) from xs_goto hΓ dJ26_putVal_60 (by decide)) ?_
        exact xm_lx (hB_259 _ _ _ _ _ e) (And.intro rfl (And.intro rfl (trivial)))
      rw [if_neg cc0] at e
      by_cases cc1 : c11 = 18
      · rw [if_pos cc1] at e
        obtain ⟨m34, m35, ⟨em1, em2⟩, e⟩ := e
        refine xw_tvr4 (o := (some l0)) (xm_or2 (show xm_Imp g Γ 56 (xi_or (xi_vir g 17 M_J26_newNode 3 4 59) (xi_vir g 18 M_J27_newNode 4 4 59)) from xs_or (xs_invV hG hΓ k_J26_newNode rfl (ci := 17) rfl q2588 q2589 q2590 dJ26_putVal_56) (xs_invO hG hΓ (owner := "java/util/HashMap") k_J27_newNode rfl (ci := 18) rfl q2588 q2591 q2589 q2593 q2592 q2599 ⟨by decide, by decide⟩ (by decide +kernel) dJ26_putVal_56))) (by simp [xm_stk, xv_cat, xc_int, xc_long, xc_float, xc_double, xc_ref]) rfl (xh_is_of e0 cc1) em1 em2 (K_J27_newNode hG l0 l1 l2 l3 none _ _ _ e) (fun v37 h36 e => ?_)
        obtain ⟨h38, e1, e⟩ := e
        refine xw_haas (o := l6) (v := v37) (show xm_Imp g Γ 59 (xi_aas "java/util/HashMap$Node" 60) from xs_aas hG hΓ dJ26_putVal_59) ha9 e1 ?_
        refine xw_goto (show xm_Imp g Γ 60 (xi_goto 259) from xs_goto hΓ dJ26_putVal_60 (by decide)) ?_
        exact xm_lx (hB_259 _ _ _ _ _ e) (And.intro rfl (And.intro rfl (trivial)))
      rw [if_neg cc1] at e
      exact e.elim
    · rw [if_neg c] at e
      refine xw_aldo (x := v10) (show xm_Imp g Γ 63 (xi_ald 7 65) from xs_aload hΓ dJ26_putVal_63) rfl ?_
      obtain ⟨a39, ha39, e⟩ := e
      obtain ⟨v40, e1, e⟩ := e
      refine xw_gi2 (o := v10) (xm_or1 (show xm_Imp g Γ 65 (xi_or (xi_get 19 0 68) (xi_get 20 0 68)) from xs_or (xs_get hG hΓ (ci := 19) (kf := 0) rfl (Nat.le_of_ble_eq_true rfl) q2327 dJ26_putVal_65) (xs_get hG hΓ (ci := 20) (kf := 0) rfl (Nat.le_of_ble_eq_true rfl) q2327 dJ26_putVal_65))) (xm_or2 (show xm_Imp g Γ 65 (xi_or (xi_get 19 0 68) (xi_get 20 0 68)) from xs_or (xs_get hG hΓ (ci := 19) (kf := 0) rfl (Nat.le_of_ble_eq_true rfl) q2327 dJ26_putVal_65) (xs_get hG hΓ (ci := 20) (kf := 0) rfl (Nat.le_of_ble_eq_true rfl) q2327 dJ26_putVal_65))) ha39 e1 ?_
      refine xw_ild (show xm_Imp g Γ 68 (xi_ild 1 69) from xs_iload_n hΓ dJ26_putVal_68) rfl ?_
      refine xw_ic (show xm_Imp g Γ 69 (xi_ic (fun x y => x = y) 72 104) from xs_icmp_ne hΓ dJ26_putVal_69 (by decide)) (fun c => ?_) (fun c => ?_)
      · rw [if_pos c] at e
        refine xw_aldo (x := v10) (show xm_Imp g Γ 72 (xi_ald 7 74) from xs_aload hΓ dJ26_putVal_72) rfl ?_
        obtain ⟨v41, e1, e⟩ := e
        refine xw_gr2 (o := v10) (xm_or1 (show xm_Imp g Γ 74 (xi_or (xi_get 19 1 77) (xi_get 20 1 77)) from xs_or (xs_get hG hΓ (ci := 19) (kf := 1) rfl (Nat.le_of_ble_eq_true rfl) q2333 dJ26_putVal_74) (xs_get hG hΓ (ci := 20) (kf := 1) rfl (Nat.le_of_ble_eq_true rfl) q2333 dJ26_putVal_74))) (xm_or2 (show xm_Imp g Γ 74 (xi_or (xi_get 19 1 77) (xi_get 20 1 77)) from xs_or (xs_get hG hΓ (ci := 19) (kf := 1) rfl (Nat.le_of_ble_eq_true rfl) q2333 dJ26_putVal_74) (xs_get hG hΓ (ci := 20) (kf := 1) rfl (Nat.le_of_ble_eq_true rfl) q2333 dJ26_putVal_74))) ha39 e1 ?_
        refine xw_dup (show xm_Imp g Γ 77 (xi_dup 78) from xs_dup hΓ dJ26_putVal_77) (xm_c1_rf v41) ?_
        refine xw_asto (x := v41) (ls' := [some (.ref l0), some (.int l1), some (va_rf l2), some (va_rf l3), some (.int l4), some (.int l5), some (va_rf l6), some (va_rf v10), some (.int l8), some (.int ((l8 - 1) &&& l1)), none, some (va_rf v41), none]) (show xm_Imp g Γ 78 (xi_ast 11 80) from xs_astore hΓ dJ26_putVal_78 (Nat.le_of_ble_eq_true rfl)) rfl ?_
        refine xw_aldo (x := l2) (show xm_Imp g Γ 80 (xi_ald 2 81) from xs_aload_n hΓ dJ26_putVal_80) rfl ?_
        refine xw_acm (o := v41) (o2 := l2) (show xm_Imp g Γ 81 (xi_acm 97 84) from xs_acmp_eq hΓ dJ26_putVal_81 (by decide)) (fun c => ?_) (fun c => ?_)
        · rw [if_pos c] at e
          exact xm_lx (hB_97 _ _ _ _ _ _ _ _ e) (And.intro rfl (And.intro rfl (And.intro rfl (And.intro rfl (And.intro rfl (trivial))))))
        · rw [if_neg c] at e
          refine xw_aldo (x := l2) (show xm_Imp g Γ 84 (xi_ald 2 85) from xs_aload_n hΓ dJ26_putVal_84) rfl ?_
          refine xw_nul (o := l2) (show xm_Imp g Γ 85 (xi_nul 104 88) from xs_ifnull hΓ dJ26_putVal_85 (by decide)) (fun c => ?_) (fun c => ?_)
          · rw [if_pos c] at e
            exact xm_lx (hB_104 _ _ _ _ _ _ _ _ _ _ _ e) (And.intro rfl (And.intro rfl (And.intro rfl (And.intro rfl (And.intro rfl (And.intro rfl (And.intro rfl (And.intro rfl (trivial)))))))))
          · rw [if_neg c] at e
            refine xw_aldo (x := l2) (show xm_Imp g Γ 88 (xi_ald 2 89) from xs_aload_n hΓ dJ26_putVal_88) rfl ?_
            refine xw_aldo (x := v41) (show xm_Imp g Γ 89 (xi_ald 11 91) from xs_aload hΓ dJ26_putVal_89) rfl ?_
            obtain ⟨a68, ha68, e⟩ := e
            obtain ⟨_, e0, e⟩ := e
            obtain ⟨v69, e1, e⟩ := e
            refine xw_hv1 (o := l2) (show xm_Imp g Γ 91 (xi_vir g 11 M_X13_equals 1 1 94) from xs_invA hG hΓ (owner := "java/lang/Object") k_X13_equals rfl (ci := 11) rfl q2601 q2603 q2615 q2614 q2600 ⟨by decide, by decide⟩ (by decide +kernel) dJ26_putVal_91) (by simp [xm_stk, xv_cat, xc_int, xc_long, xc_float, xc_double, xc_ref]) ha68 e0 (fun Q X hQ => K_X13_equals hG a68 v41 _ e1 hQ) ?_
            refine xw_if (show xm_Imp g Γ 94 (xi_if (fun x => x = 0) 104 97) from xs_if_eq hΓ dJ26_putVal_94 (by decide)) (fun c => ?_) (fun c => ?_)
            · rw [if_pos c] at e
              exact xm_lx (hB_104 _ _ _ _ _ _ _ _ _ _ _ e) (And.intro rfl (And.intro rfl (And.intro rfl (And.intro rfl (And.intro rfl (And.intro rfl (And.intro rfl (And.intro rfl (trivial)))))))))
            · rw [if_neg c] at e
              exact xm_lx (hB_97 _ _ _ _ _ _ _ _ e) (And.intro rfl (And.intro rfl (And.intro rfl (And.intro rfl (And.intro rfl (trivial))))))
      · rw [if_neg c] at e
        exact xm_lx (hB_104 _ _ _ _ _ _ _ _ _ _ _ e) (And.intro rfl (And.intro rfl (And.intro rfl (And.intro rfl (And.intro rfl (And.intro rfl (And.intro rfl (And.intro rfl (trivial)))))))))
  have hB_19 : ∀ (l0 : Nat) (l1 : Int32) (l2 : Option Nat) (l3 : Option Nat) (l4 : Int32) (l5 : Int32) (h : xm_H) (bc : Nat) (bs : Nat), B_J26_putVal_19 g l0 l1 l2 l3 l4 l5 h bc bs Q → xm_W g Γ 19 [some (.ref l0), some (.int l1), some (va_rf l2), some (va_rf l3), some (.int l4), some (.int l5), none, none, none, none, none, none, none] [] h bc bs := by
    intro l0 l1 l2 l3 l4 l5 h bc bs e
    unfold B_J26_putVal_19 at e
    refine xw_ald (show xm_Imp g Γ 19 (xi_ald 0 20) from xs_aload_n hΓ dJ26_putVal_19) rfl ?_
    obtain ⟨c2, e0, e⟩ := e
    by_cases cc0 : c2 = 17
    · rw [if_pos cc0] at e
      obtain ⟨m3, m4, ⟨em1, em2⟩, e⟩ := e
      refine xw_tvr0 (o := (some l0)) (xm_or1 (show xm_Imp g Γ 20 (xi_or (xi_vir g 17 M_J26_resize 1 0 23) (xi_vir g 18 M_J26_resize 1 0 23)) from xs_or (xs_invV hG hΓ k_J26_resize rfl (ci := 17) rfl q2283 q2284 q2285 dJ26_putVal_20) (xs_invU hG hΓ (owner := "java/util/HashMap") k_J26_resize rfl (ci := 18) rfl q2283 q2286 q2284 q2287 rfl ⟨by decide, by decide⟩ (by decide +kernel) dJ26_putVal_20))) rfl rfl (xh_is_of e0 cc0) em1 em2 (K_J26_resize hG l0 _ _ _ e) (fun v6 h5 e => ?_)
      refine xw_dup (show xm_Imp g Γ 23 (xi_dup 24) from xs_dup hΓ dJ26_putVal_23) (xm_c1_rf v6) ?_
      refine xw_asto (x := v6) (ls' := [some (.ref l0), some (.int l1), some (va_rf l2), some (va_rf l3), some (.int l4), some (.int l5), some (va_rf v6), none, none, none, none, none, none]) (show xm_Imp g Γ 24 (xi_ast 6 26) from xs_astore hΓ dJ26_putVal_24 (Nat.le_of_ble_eq_true rfl)) rfl ?_
      obtain ⟨a7, ha7, e⟩ := e
      obtain ⟨v8, e1, e⟩ := e
      refine xw_hlen (o := v6) (show xm_Imp g Γ 26 (xi_len 27) from xs_len hG hΓ dJ26_putVal_26) ha7 e1 ?_
      refine xw_ist (ls' := [some (.ref l0), some (.int l1), some (va_rf l2), some (va_rf l3), some (.int l4), some (.int l5), some (va_rf v6), none, some (.int v8), none, none, none, none]) (show xm_Imp g Γ 27 (xi_ist 8 29) from xs_istore hΓ dJ26_putVal_27 (Nat.le_of_ble_eq_true rfl)) rfl ?_
      exact hB_29 _ _ _ _ _ _ _ _ _ _ _ e
    rw [if_neg cc0] at e
    by_cases cc1 : c2 = 18
    · rw [if_pos cc1] at e
      obtain ⟨m70, m71, ⟨em1, em2⟩, e⟩ := e
      refine xw_tvr0 (o := (some l0)) (xm_or2 (show xm_Imp g Γ 20 (xi_or (xi_vir g 17 M_J26_resize 1 0 23) (xi_vir g 18 M_J26_resize 1 0 23)) from xs_or (xs_invV hG hΓ k_J26_resize rfl (ci := 17) rfl q2283 q2284 q2285 dJ26_putVal_20) (xs_invU hG hΓ (owner := "java/util/HashMap") k_J26_resize rfl (ci := 18) rfl q2283 q2286 q2284 q2287 rfl ⟨by decide, by decide⟩ (by decide +kernel) dJ26_putVal_20))) rfl rfl (xh_is_of e0 cc1) em1 em2 (K_J26_resize hG l0 _ _ _ e) (fun v73 h72 e => ?_)
      refine xw_dup (show xm_Imp g Γ 23 (xi_dup 24) from xs_dup hΓ dJ26_putVal_23) (xm_c1_rf v73) ?_
      refine xw_asto (x := v73) (ls' := [some (.ref l0), some (.int l1), some (va_rf l2), some (va_rf l3), some (.int l4), some (.int l5), some (va_rf v73), none, none, none, none, none, none]) (show xm_Imp g Γ 24 (xi_ast 6 26) from xs_astore hΓ dJ26_putVal_24 (Nat.le_of_ble_eq_true rfl)) rfl ?_
      obtain ⟨a74, ha74, e⟩ := e
      obtain ⟨v75, e1, e⟩ := e
      refine xw_hlen (o := v73) (show xm_Imp g Γ 26 (xi_len 27) from xs_len hG hΓ dJ26_putVal_26) ha74 e1 ?_
      refine xw_ist (ls' := [some (.ref l0), some (.int l1), some (va_rf l2), some (va_rf l3), some (.int l4), some (.int l5), some (va_rf v73), none, some (.int v75), none, none, none, none]) (show xm_Imp g Γ 27 (xi_ist 8 29) from xs_istore hΓ dJ26_putVal_27 (Nat.le_of_ble_eq_true rfl)) rfl ?_
      exact hB_29 _ _ _ _ _ _ _ _ _ _ _ e
    rw [if_neg cc1] at e
    exact e.elim
  unfold F_J26_putVal at e
  refine xw_ald (show xm_Imp g Γ 0 (xi_ald 0 1) from xs_aload_n hΓ dJ26_putVal_0) rfl ?_
  obtain ⟨v1, e1, e⟩ := e
  refine xw_gr2 (o := (some p0)) (xm_or1 (show xm_Imp g Γ 1 (xi_or (xi_get 17 2 4) (xi_get 18 2 4)) from xs_or (xs_get hG hΓ (ci := 17) (kf := 2) rfl (Nat.le_of_ble_eq_true rfl) q2174 dJ26_putVal_1) (xs_get hG hΓ (ci := 18) (kf := 2) rfl (Nat.le_of_ble_eq_true rfl) q2174 dJ26_putVal_1))) (xm_or2 (show xm_Imp g Γ 1 (xi_or (xi_get 17 2 4) (xi_get 18 2 4)) from xs_or (xs_get hG hΓ (ci := 17) (kf := 2) rfl (Nat.le_of_ble_eq_true rfl) q2174 dJ26_putVal_1) (xs_get hG hΓ (ci := 18) (kf := 2) rfl (Nat.le_of_ble_eq_true rfl) q2174 dJ26_putVal_1))) rfl e1 ?_
  refine xw_dup (show xm_Imp g Γ 4 (xi_dup 5) from xs_dup hΓ dJ26_putVal_4) (xm_c1_rf v1) ?_
  refine xw_asto (x := v1) (ls' := [some (.ref p0), some (.int p1), some (va_rf p2), some (va_rf p3), some (.int p4), some (.int p5), some (va_rf v1), none, none, none, none, none, none]) (show xm_Imp g Γ 5 (xi_ast 6 7) from xs_astore hΓ dJ26_putVal_5 (Nat.le_of_ble_eq_true rfl)) rfl ?_
  refine xw_nul (o := v1) (show xm_Imp g Γ 7 (xi_nul 19 10) from xs_ifnull hΓ dJ26_putVal_7 (by decide)) (fun c => ?_) (fun c => ?_)
  · rw [if_pos c] at e
    exact xm_lx (hB_19 _ _ _ _ _ _ _ _ _ e) (And.intro rfl (And.intro rfl (And.intro rfl (And.intro rfl (And.intro rfl (And.intro rfl (trivial)))))))
  · rw [if_neg c] at e
    refine xw_aldo (x := v1) (show xm_Imp g Γ 10 (xi_ald 6 12) from xs_aload hΓ dJ26_putVal_10) rfl ?_
    obtain ⟨a76, ha76, e⟩ := e
    obtain ⟨v77, e1, e⟩ := e
    refine xw_hlen (o := v1) (show xm_Imp g Γ 12 (xi_len 13) from xs_len hG hΓ dJ26_putVal_12) ha76 e1 ?_
    refine xw_dup (show xm_Imp g Γ 13 (xi_dup 14) from xs_dup hΓ dJ26_putVal_13) rfl ?_
    refine xw_ist (ls' := [some (.ref p0), some (.int p1), some (va_rf p2), some (va_rf p3), some (.int p4), some (.int p5), some (va_rf v1), none, some (.int v77), none, none, none, none]) (show xm_Imp g Γ 14 (xi_ist 8 16) from xs_istore hΓ dJ26_putVal_14 (Nat.le_of_ble_eq_true rfl)) rfl ?_
    refine xw_if (show xm_Imp g Γ 16 (xi_if (fun x => x = 0) 19 29) from xs_if_ne hΓ dJ26_putVal_16 (by decide)) (fun c => ?_) (fun c => ?_)
    · rw [if_pos c] at e
      exact xm_lx (hB_19 _ _ _ _ _ _ _ _ _ e) (And.intro rfl (And.intro rfl (And.intro rfl (And.intro rfl (And.intro rfl (And.intro rfl (trivial)))))))
    · rw [if_neg c] at e
      exact hB_29 _ _ _ _ _ _ _ _ _ _ _ e
