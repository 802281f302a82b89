/-! METHODS ON KNOWN CELLS as functions (printed by gen/mkhfun.py) -/
set_option maxRecDepth 100000
noncomputable def F_J10_copyOf_2 (g : xm_G) (p0 : Option Nat) (p1 : Int32) (h : xm_H) (bc : Nat) (bs : Nat) (Q : Option Nat → xm_H → Prop) : Prop :=
 xt_b p0 (fun a1 =>
 xt_b (xh_castA (.object "java/lang/Object") h (some a1)) (fun _ =>
 xt_c bc bs (fun m2 m3 => F_J10_copyOf_3 g p0 p1 (some (xm_mi g "[Ljava/lang/Object;")) h m2 m3 (fun v5 h4 =>
 Q v5 h4))))
set_option maxHeartbeats 4000000 in
theorem K_J10_copyOf_2 {g : xm_G} (hG : xm_Gw g) (p0 : Option Nat) (p1 : Int32) (h : xm_H) (bc : Nat) (bs : Nat) {Q : Option Nat → xm_H → Prop} (e : F_J10_copyOf_2 g p0 p1 h bc bs Q) : xm_Run g M_J10_copyOf_2 7 [va_rf p0, .int p1] h bc bs (fun v h' => ∃ r, v = some (va_rf r) ∧ Q r h') xm_no := by
  refine xm_Run.of2 (ls := [some (va_rf p0), some (.int p1)]) pn_java_util_Arrays (by cases p0 <;> exact Nat.le_of_ble_eq_true rfl) (by cases p0 <;> rfl) (fun Γ hΓ => ?_)
  show xm_W g Γ 0 [some (va_rf p0), some (.int p1)] [] h bc bs
  unfold F_J10_copyOf_2 at e
  refine xw_aldo (x := p0) (show xm_Imp g Γ 0 (xi_ald 0 1) from xs_aload_n hΓ dJ10_copyOf_2_0) rfl ?_
  refine xw_ild (show xm_Imp g Γ 1 (xi_ild 1 2) from xs_iload_n hΓ dJ10_copyOf_2_1) rfl ?_
  refine xw_aldo (x := p0) (show xm_Imp g Γ 2 (xi_ald 0 3) from xs_aload_n hΓ dJ10_copyOf_2_2) rfl ?_
  obtain ⟨a1, ha1, e⟩ := e
  obtain ⟨_, e1, e⟩ := e
  refine xw_gcl (o := p0) (show xm_Imp g Γ 3 (xi_gcl (.object "java/lang/Object") (xm_mi g "[Ljava/lang/Object;") 6) from xs_gcl hG hΓ rfl (by decide +kernel) q1042 q3584 q3583 q1043 q1077 (by decide +kernel) dJ10_copyOf_2_3) ha1 (by simp [xm_stk, xv_cat, xc_int, xc_long, xc_float, xc_double, xc_ref]) e1 ?_
  obtain ⟨m2, m3, ⟨em1, em2⟩, e⟩ := e
  refine xw_tsr3 (show xm_Imp g Γ 6 (xi_inv g M_J10_copyOf_3 6 3 9) from xs_invS hG hΓ k_J10_copyOf_3 rfl q1078 q1079 dJ10_copyOf_2_6) rfl em1 em2 (K_J10_copyOf_3 hG p0 p1 (some (xm_mi g "[Ljava/lang/Object;")) _ _ _ e) (fun v5 h4 e => ?_)
  exact xw_areto (show xm_Imp g Γ 9 (xi_aret _) from xs_areturn hΓ rfl (Or.inr ⟨_, rfl⟩) dJ10_copyOf_2_9) ⟨_, rfl, e⟩
noncomputable def F_J2_toArray (g : xm_G) (p0 : Nat) (h : xm_H) (bc : Nat) (bs : Nat) (Q : Option Nat → xm_H → Prop) : Prop :=
 xt_b (xh_fr [(12, 1)] h p0) (fun v1 =>
 xt_b (xh_fi [(12, 2)] h p0) (fun v2 =>
 xt_c bc bs (fun m3 m4 => F_J10_copyOf_2 g v1 v2 h m3 m4 (fun v6 h5 =>
 Q v6 h5))))
set_option maxHeartbeats 4000000 in
theorem K_J2_toArray {g : xm_G} (hG : xm_Gw g) (p0 : Nat) (h : xm_H) (bc : Nat) (bs : Nat) {Q : Option Nat → xm_H → Prop} (e : F_J2_toArray g p0 h bc bs Q) : xm_Run g M_J2_toArray 8 [.ref p0] h bc bs (fun v h' => ∃ r, v = some (va_rf r) ∧ Q r h') xm_no := by
  refine xm_Run.of pn_java_util_ArrayList (Nat.le_of_ble_eq_true rfl) (fun Γ hΓ => ?_)
  show xm_W g Γ 0 [some (.ref p0)] [] h bc bs
  unfold F_J2_toArray at e
  refine xw_ald (show xm_Imp g Γ 0 (xi_ald 0 1) from xs_aload_n hΓ dJ2_toArray_0) rfl ?_
  obtain ⟨v1, e1, e⟩ := e
  refine xw_gr1 (o := (some p0)) (show xm_Imp g Γ 1 (xi_get 12 1 4) from xs_get hG hΓ (ci := 12) (kf := 1) rfl (Nat.le_of_ble_eq_true rfl) q201 dJ2_toArray_1) rfl e1 ?_
  refine xw_ald (show xm_Imp g Γ 4 (xi_ald 0 5) from xs_aload_n hΓ dJ2_toArray_4) rfl ?_
  obtain ⟨v2, e1, e⟩ := e
  refine xw_gi1 (o := (some p0)) (show xm_Imp g Γ 5 (xi_get 12 2 8) from xs_get hG hΓ (ci := 12) (kf := 2) rfl (Nat.le_of_ble_eq_true rfl) q202 dJ2_toArray_5) rfl e1 ?_
  obtain ⟨m3, m4, ⟨em1, em2⟩, e⟩ := e
  refine xw_tsr2 (show xm_Imp g Γ 8 (xi_inv g M_J10_copyOf_2 7 2 11) from xs_invS hG hΓ k_J10_copyOf_2 rfl q1039 q1040 dJ2_toArray_8) rfl em1 em2 (K_J10_copyOf_2 hG v1 v2 _ _ _ e) (fun v6 h5 e => ?_)
  exact xw_areto (show xm_Imp g Γ 11 (xi_aret _) from xs_areturn hΓ rfl (Or.inr ⟨_, rfl⟩) dJ2_toArray_11) ⟨_, rfl, e⟩
noncomputable def B_J3_toArray_2_32 (g : xm_G) (l1 : Option Nat) (l2 : Option Nat) (l4 : Int32) (s0 : Int32) (s1 : Int32) (h : xm_H) : Option (Option Nat) :=
 (if (s0 + s1) < 0 then
 none else
 none)
noncomputable def F_J3_toArray_2 (g : xm_G) (p0 : Nat) (p1 : Option Nat) (h : xm_H) : Option (Option Nat) :=
 xo_b (xh_fr [(13, 0)] h p0) (fun v1 =>
 xo_b (xh_fi [(13, 1)] h p0) (fun v2 =>
 xo_b (xh_fi [(13, 2)] h p0) (fun v3 =>
 (if v3 < v2 then
 xo_b v1 (fun a4 =>
 xo_b (xh_len h a4) (fun v5 =>
 B_J3_toArray_2_32 g p1 v1 v2 v3 v5 h)) else
 B_J3_toArray_2_32 g p1 v1 v2 v3 0 h))))
set_option maxHeartbeats 4000000 in
theorem K_J3_toArray_2 {g : xm_G} (hG : xm_Gw g) (p0 : Nat) (p1 : Option Nat) (h : xm_H) {o : Option Nat} (e : F_J3_toArray_2 g p0 p1 h = some o) {Q : xm_P} {X : xm_X} (hQ : Q (some (va_rf o)) h) : xm_Run g M_J3_toArray_2 1 [.ref p0, va_rf p1] h 0 0 Q X := by
  refine xm_Run.of2 (ls := [some (.ref p0), some (va_rf p1), none, none, none, none, none]) pn_java_util_ArrayDeque (by cases p1 <;> exact Nat.le_of_ble_eq_true rfl) (by cases p1 <;> rfl) (fun Γ hΓ => ?_)
  obtain ⟨P0, hP0, hp⟩ : ∃ P : Option Nat → Prop, (∀ o, P o → Q (some (va_rf o)) h) ∧ P o := ⟨fun o => Q (some (va_rf o)) h, fun _ h => h, hQ⟩
  clear hQ
  show xm_W g Γ 0 [some (.ref p0), some (va_rf p1), none, none, none, none, none] [] h 0 0
  have hB_32 : ∀ (l1 : Option Nat) (l2 : Option Nat) (l4 : Int32) (s0 : Int32) (s1 : Int32) (o : Option Nat), B_J3_toArray_2_32 g l1 l2 l4 s0 s1 h = some o → P0 o → xm_W g Γ 32 [none, some (va_rf l1), some (va_rf l2), none, some (.int l4), none, none] [.int s1, .int s0] h 0 0 := by
    intro l1 l2 l4 s0 s1 o e hp
    unfold B_J3_toArray_2_32 at e
    refine xw_ii (show xm_Imp g Γ 32 (xi_ii (fun x y => x + y) 33) from xs_iadd hΓ dJ3_toArray_2_32) ?_
    refine xw_dup (show xm_Imp g Γ 33 (xi_dup 34) from xs_dup hΓ dJ3_toArray_2_33) rfl ?_
    refine xw_ist (ls' := [none, some (va_rf l1), some (va_rf l2), none, some (.int l4), none, some (.int (s0 + s1))]) (show xm_Imp g Γ 34 (xi_ist 6 36) from xs_istore hΓ dJ3_toArray_2_34 (Nat.le_of_ble_eq_true rfl)) rfl ?_
    refine xw_if (show xm_Imp g Γ 36 (xi_if (fun x => x < 0) 52 39) from xs_if_lt hΓ dJ3_toArray_2_36 (by decide)) (fun c => ?_) (fun c => ?_)
    · rw [if_pos c] at e
      refine xw_aldo (x := l2) (show xm_Imp g Γ 52 (xi_ald 2 53) from xs_aload_n hΓ dJ3_toArray_2_52) rfl ?_
      refine xw_psh (v := (.int (0))) (show xm_Imp g Γ 53 (xi_psh (.int (0)) 54) from xs_iconst hΓ dJ3_toArray_2_53 (by decide)) ?_
      refine xw_ild (show xm_Imp g Γ 54 (xi_ild 6 56) from xs_iload hΓ dJ3_toArray_2_54) rfl ?_
      refine xw_ild (show xm_Imp g Γ 56 (xi_ild 4 58) from xs_iload hΓ dJ3_toArray_2_56) rfl ?_
      refine xw_ii (show xm_Imp g Γ 58 (xi_ii (fun x y => x - y) 59) from xs_isub hΓ dJ3_toArray_2_58) ?_
      refine xw_aldo (x := l1) (show xm_Imp g Γ 59 (xi_ald 1 60) from xs_aload_n hΓ dJ3_toArray_2_59) rfl ?_
      cases e
    · rw [if_neg c] at e
      refine xw_aldo (x := l2) (show xm_Imp g Γ 39 (xi_ald 2 40) from xs_aload_n hΓ dJ3_toArray_2_39) rfl ?_
      refine xw_ild (show xm_Imp g Γ 40 (xi_ild 4 42) from xs_iload hΓ dJ3_toArray_2_40) rfl ?_
      refine xw_ild (show xm_Imp g Γ 42 (xi_ild 6 44) from xs_iload hΓ dJ3_toArray_2_42) rfl ?_
      refine xw_aldo (x := l1) (show xm_Imp g Γ 44 (xi_ald 1 45) from xs_aload_n hΓ dJ3_toArray_2_44) rfl ?_
      cases e
  unfold F_J3_toArray_2 at e
  refine xw_ald (show xm_Imp g Γ 0 (xi_ald 0 1) from xs_aload_n hΓ dJ3_toArray_2_0) rfl ?_
  obtain ⟨v1, e1, e⟩ := xo_b_s e
  refine xw_gr1 (o := (some p0)) (show xm_Imp g Γ 1 (xi_get 13 0 4) from xs_get hG hΓ (ci := 13) (kf := 0) rfl (Nat.le_of_ble_eq_true rfl) q221 dJ3_toArray_2_1) rfl e1 ?_
  refine xw_asto (x := v1) (ls' := [some (.ref p0), some (va_rf p1), some (va_rf v1), none, none, none, none]) (show xm_Imp g Γ 4 (xi_ast 2 5) from xs_astore_n hΓ dJ3_toArray_2_4 (Nat.le_of_ble_eq_true rfl)) ((xm_s1_o (o := p1) rfl).trans rfl) ?_
  refine xw_ald (show xm_Imp g Γ 5 (xi_ald 0 6) from xs_aload_n hΓ dJ3_toArray_2_5) rfl ?_
  obtain ⟨v2, e1, e⟩ := xo_b_s e
  refine xw_gi1 (o := (some p0)) (show xm_Imp g Γ 6 (xi_get 13 1 9) from xs_get hG hΓ (ci := 13) (kf := 1) rfl (Nat.le_of_ble_eq_true rfl) q224 dJ3_toArray_2_6) rfl e1 ?_
  refine xw_ist (ls' := [some (.ref p0), some (va_rf p1), some (va_rf v1), none, some (.int v2), none, none]) (show xm_Imp g Γ 9 (xi_ist 4 11) from xs_istore hΓ dJ3_toArray_2_9 (Nat.le_of_ble_eq_true rfl)) rfl ?_
  refine xw_ald (show xm_Imp g Γ 11 (xi_ald 0 12) from xs_aload_n hΓ dJ3_toArray_2_11) rfl ?_
  obtain ⟨v3, e1, e⟩ := xo_b_s e
  refine xw_gi1 (o := (some p0)) (show xm_Imp g Γ 12 (xi_get 13 2 15) from xs_get hG hΓ (ci := 13) (kf := 2) rfl (Nat.le_of_ble_eq_true rfl) q225 dJ3_toArray_2_12) rfl e1 ?_
  refine xw_ist (ls' := [some (.ref p0), some (va_rf p1), some (va_rf v1), none, some (.int v2), some (.int v3), none]) (show xm_Imp g Γ 15 (xi_ist 5 17) from xs_istore hΓ dJ3_toArray_2_15 (Nat.le_of_ble_eq_true rfl)) rfl ?_
  refine xw_ild (show xm_Imp g Γ 17 (xi_ild 5 19) from xs_iload hΓ dJ3_toArray_2_17) rfl ?_
  refine xw_ild (show xm_Imp g Γ 19 (xi_ild 4 21) from xs_iload hΓ dJ3_toArray_2_19) rfl ?_
  refine xw_ild (show xm_Imp g Γ 21 (xi_ild 5 23) from xs_iload hΓ dJ3_toArray_2_21) rfl ?_
  refine xw_ic (show xm_Imp g Γ 23 (xi_ic (fun x y => y < x) 30 26) from xs_icmp_gt hΓ dJ3_toArray_2_23 (by decide)) (fun c => ?_) (fun c => ?_)
  · rw [if_pos c] at e
    refine xw_aldo (x := v1) (show xm_Imp g Γ 30 (xi_ald 2 31) from xs_aload_n hΓ dJ3_toArray_2_30) rfl ?_
    obtain ⟨a4, ha4, e⟩ := xo_b_s e
    obtain ⟨v5, e1, e⟩ := xo_b_s e
    refine xw_hlen (o := v1) (show xm_Imp g Γ 31 (xi_len 32) from xs_len hG hΓ dJ3_toArray_2_31) ha4 e1 ?_
    exact xm_lx (hB_32 _ _ _ _ _ _ e hp) (And.intro rfl (And.intro rfl (And.intro rfl (trivial))))
  · rw [if_neg c] at e
    refine xw_psh (v := (.int (0))) (show xm_Imp g Γ 26 (xi_psh (.int (0)) 27) from xs_iconst hΓ dJ3_toArray_2_26 (by decide)) ?_
    refine xw_goto (show xm_Imp g Γ 27 (xi_goto 32) from xs_goto hΓ dJ3_toArray_2_27 (by decide)) ?_
    exact xm_lx (hB_32 _ _ _ _ _ _ e hp) (And.intro rfl (And.intro rfl (And.intro rfl (trivial))))
noncomputable def F_J3_toArray (g : xm_G) (p0 : Nat) (h : xm_H) : Option (Option Nat) :=
 xo_b (xh_is 13 h p0) (fun _ =>
 xo_b (F_J3_toArray_2 g p0 (some (xm_mi g "[Ljava/lang/Object;")) h) (fun v1 =>
 some v1))
set_option maxHeartbeats 4000000 in
theorem K_J3_toArray {g : xm_G} (hG : xm_Gw g) (p0 : Nat) (h : xm_H) {o : Option Nat} (e : F_J3_toArray g p0 h = some o) {Q : xm_P} {X : xm_X} (hQ : Q (some (va_rf o)) h) : xm_Run g M_J3_toArray 2 [.ref p0] h 0 0 Q X := by
  refine xm_Run.of pn_java_util_ArrayDeque (Nat.le_of_ble_eq_true rfl) (fun Γ hΓ => ?_)
  obtain ⟨P0, hP0, hp⟩ : ∃ P : Option Nat → Prop, (∀ o, P o → Q (some (va_rf o)) h) ∧ P o := ⟨fun o => Q (some (va_rf o)) h, fun _ h => h, hQ⟩
  clear hQ
  show xm_W g Γ 0 [some (.ref p0)] [] h 0 0
  unfold F_J3_toArray at e
  refine xw_ald (show xm_Imp g Γ 0 (xi_ald 0 1) from xs_aload_n hΓ dJ3_toArray_0) rfl ?_
  refine xw_psh (v := (.ref (xm_mi g "[Ljava/lang/Object;"))) (show xm_Imp g Γ 1 (xi_psh (.ref (xm_mi g "[Ljava/lang/Object;")) 3) from xs_ldM hG hΓ q1330 (by decide +kernel) dJ3_toArray_1) ?_
  obtain ⟨_, e0, e⟩ := xo_b_s e
  obtain ⟨v1, e1, e⟩ := xo_b_s e
  refine xw_hv1 (o := (some p0)) (show xm_Imp g Γ 3 (xi_vir g 13 M_J3_toArray_2 1 1 6) from xs_invV hG hΓ k_J3_toArray_2 rfl (ci := 13) rfl q1331 q1333 qs26 dJ3_toArray_3) rfl rfl e0 (fun Q X hQ => K_J3_toArray_2 hG p0 (some (xm_mi g "[Ljava/lang/Object;")) _ e1 hQ) ?_
  have hq := hP0 _ (xl_fin e hp)
  exact xw_areto (show xm_Imp g Γ 6 (xi_aret _) from xs_areturn hΓ rfl (Or.inr ⟨_, rfl⟩) dJ3_toArray_6) hq
noncomputable def B_J8_newLength_21 (g : xm_G) (l0 : Int32) (l1 : Int32) (h : xm_H) : Option (Int32) :=
 none
noncomputable def F_J8_newLength (g : xm_G) (p0 : Int32) (p1 : Int32) (p2 : Int32) (h : xm_H) : Option (Int32) :=
 (if (p0 + (if p1 < p2 then p2 else p1)) ≤ (0 : Int32) then
 B_J8_newLength_21 g p0 p1 h else
 (if (2147483639 : Int32) < (p0 + (if p1 < p2 then p2 else p1)) then
 B_J8_newLength_21 g p0 p1 h else
 some (p0 + (if p1 < p2 then p2 else p1))))
set_option maxHeartbeats 4000000 in
theorem K_J8_newLength {g : xm_G} (hG : xm_Gw g) (p0 : Int32) (p1 : Int32) (p2 : Int32) (h : xm_H) {o : Int32} (e : F_J8_newLength g p0 p1 p2 h = some o) {Q : xm_P} {X : xm_X} (hQ : Q (some (.int o)) h) : xm_Run g M_J8_newLength 2 [.int p0, .int p1, .int p2] h 0 0 Q X := by
  refine xm_Run.of pn_jdk_internal_util_ArraysSupport (Nat.le_of_ble_eq_true rfl) (fun Γ hΓ => ?_)
  obtain ⟨P0, hP0, hp⟩ : ∃ P : Int32 → Prop, (∀ o, P o → Q (some (.int o)) h) ∧ P o := ⟨fun o => Q (some (.int o)) h, fun _ h => h, hQ⟩
  clear hQ
  show xm_W g Γ 0 [some (.int p0), some (.int p1), some (.int p2), none] [] h 0 0
  have hB_21 : ∀ (l0 : Int32) (l1 : Int32) (o : Int32), B_J8_newLength_21 g l0 l1 h = some o → P0 o → xm_W g Γ 21 [some (.int l0), some (.int l1), none, none] [] h 0 0 := by
    intro l0 l1 o e hp
    unfold B_J8_newLength_21 at e
    refine xw_ild (show xm_Imp g Γ 21 (xi_ild 0 22) from xs_iload_n hΓ dJ8_newLength_21) rfl ?_
    refine xw_ild (show xm_Imp g Γ 22 (xi_ild 1 23) from xs_iload_n hΓ dJ8_newLength_22) rfl ?_
    cases e
  unfold F_J8_newLength at e
  refine xw_ild (show xm_Imp g Γ 0 (xi_ild 0 1) from xs_iload_n hΓ dJ8_newLength_0) rfl ?_
  refine xw_ild (show xm_Imp g Γ 1 (xi_ild 1 2) from xs_iload_n hΓ dJ8_newLength_1) rfl ?_
  refine xw_ild (show xm_Imp g Γ 2 (xi_ild 2 3) from xs_iload_n hΓ dJ8_newLength_2) rfl ?_
  refine xw_mm (show xm_Imp g Γ 3 (xi_mm (fun x y => if x < y then y else x) 6) from xs_mmax hG hΓ rfl q437 dJ8_newLength_3) rfl ?_
  refine xw_ii (show xm_Imp g Γ 6 (xi_ii (fun x y => x + y) 7) from xs_iadd hΓ dJ8_newLength_6) ?_
  refine xw_ist (ls' := [some (.int p0), some (.int p1), some (.int p2), some (.int (p0 + (if p1 < p2 then p2 else p1)))]) (show xm_Imp g Γ 7 (xi_ist 3 8) from xs_istore_n hΓ dJ8_newLength_7 (Nat.le_of_ble_eq_true rfl)) rfl ?_
  refine xw_psh (v := (.int (0))) (show xm_Imp g Γ 8 (xi_psh (.int (0)) 9) from xs_iconst hΓ dJ8_newLength_8 (by decide)) ?_
  refine xw_ild (show xm_Imp g Γ 9 (xi_ild 3 10) from xs_iload_n hΓ dJ8_newLength_9) rfl ?_
  refine xw_ic (show xm_Imp g Γ 10 (xi_ic (fun x y => y ≤ x) 21 13) from xs_icmp_ge hΓ dJ8_newLength_10 (by decide)) (fun c => ?_) (fun c => ?_)
  · rw [if_pos c] at e
    exact xm_lx (hB_21 _ _ _ e hp) (And.intro rfl (And.intro rfl (trivial)))
  · rw [if_neg c] at e
    refine xw_ild (show xm_Imp g Γ 13 (xi_ild 3 14) from xs_iload_n hΓ dJ8_newLength_13) rfl ?_
    refine xw_psh (v := (.int (2147483639))) (show xm_Imp g Γ 14 (xi_psh (.int (2147483639)) 16) from xs_ldc hG hΓ q440 dJ8_newLength_14) ?_
    refine xw_ic (show xm_Imp g Γ 16 (xi_ic (fun x y => y < x) 21 19) from xs_icmp_gt hΓ dJ8_newLength_16 (by decide)) (fun c => ?_) (fun c => ?_)
    · rw [if_pos c] at e
      exact xm_lx (hB_21 _ _ _ e hp) (And.intro rfl (And.intro rfl (trivial)))
    · rw [if_neg c] at e
      refine xw_ild (show xm_Imp g Γ 19 (xi_ild 3 20) from xs_iload_n hΓ dJ8_newLength_19) rfl ?_
      have hq := hP0 _ (xl_fin e hp)
      exact xw_iret (show xm_Imp g Γ 20 (xi_iret .int _) from xs_ireturn hΓ rfl dJ8_newLength_20) (xn_int _) hq
noncomputable def B_J2_grow_2_20 (g : xm_G) (l0 : Nat) (l1 : Int32) (l2 : Int32) (h : xm_H) (bc : Nat) (bs : Nat) (Q : Option Nat → xm_H → Prop) : Prop :=
 xt_b (F_J8_newLength g l2 (l1 - l2) (l2 >>> (1 &&& 31)) h) (fun v4 =>
 xt_b (xh_fr [(12, 1)] h l0) (fun v5 =>
 xt_c bc bs (fun m6 m7 => F_J10_copyOf_2 g v5 v4 h m6 m7 (fun v9 h8 =>
 xt_b (xh_w [(12, 1)] h8 l0 (va_rf v9)) (fun h10 =>
 Q v9 h10)))))
noncomputable def F_J2_grow_2 (g : xm_G) (p0 : Nat) (p1 : Int32) (h : xm_H) (bc : Nat) (bs : Nat) (Q : Option Nat → xm_H → Prop) : Prop :=
 xt_b (xh_fr [(12, 1)] h p0) (fun v1 =>
 xt_b v1 (fun a2 =>
 xt_b (xh_len h a2) (fun v3 =>
 (if 0 < v3 then
 B_J2_grow_2_20 g p0 p1 v3 h bc bs Q else
 xt_b (xh_fr [(12, 1)] h p0) (fun v11 =>
 (if v11 = (xm_sto g "java/util/ArrayList" "DEFAULTCAPACITY_EMPTY_ELEMENTDATA" "[Ljava/lang/Object;") then
 xt_b (xa_nat (if 10 < p1 then p1 else 10)) (fun N16 =>
 xt_new h bc bs N16 (.inl (.object "java/lang/Object", N16, .inr (.inr (.inr (.inr (fun _ => none)))))) (fun a12 h13 b14 b15 =>
 xt_b (xh_w [(12, 1)] h13 p0 (.ref a12)) (fun h17 =>
 Q (some a12) h17))) else
 B_J2_grow_2_20 g p0 p1 v3 h bc bs Q))))))
set_option maxHeartbeats 4000000 in
theorem K_J2_grow_2 {g : xm_G} (hG : xm_Gw g) (p0 : Nat) (p1 : Int32) (h : xm_H) (bc : Nat) (bs : Nat) {Q : Option Nat → xm_H → Prop} (e : F_J2_grow_2 g p0 p1 h bc bs Q) : xm_Run g M_J2_grow_2 8 [.ref p0, .int p1] h bc bs (fun v h' => ∃ r, v = some (va_rf r) ∧ Q r h') xm_no := by
  refine xm_Run.of pn_java_util_ArrayList (Nat.le_of_ble_eq_true rfl) (fun Γ hΓ => ?_)
  show xm_W g Γ 0 [some (.ref p0), some (.int p1), none, none] [] h bc bs
  have hB_20 : ∀ (l0 : Nat) (l1 : Int32) (l2 : Int32) (h : xm_H) (bc : Nat) (bs : Nat), B_J2_grow_2_20 g l0 l1 l2 h bc bs Q → xm_W g Γ 20 [some (.ref l0), some (.int l1), some (.int l2), none] [] h bc bs := by
    intro l0 l1 l2 h bc bs e
    unfold B_J2_grow_2_20 at e
    refine xw_ild (show xm_Imp g Γ 20 (xi_ild 2 21) from xs_iload_n hΓ dJ2_grow_2_20) rfl ?_
    refine xw_ild (show xm_Imp g Γ 21 (xi_ild 1 22) from xs_iload_n hΓ dJ2_grow_2_21) rfl ?_
    refine xw_ild (show xm_Imp g Γ 22 (xi_ild 2 23) from xs_iload_n hΓ dJ2_grow_2_22) rfl ?_
    refine xw_ii (show xm_Imp g Γ 23 (xi_ii (fun x y => x - y) 24) from xs_isub hΓ dJ2_grow_2_23) ?_
    refine xw_ild (show xm_Imp g Γ 24 (xi_ild 2 25) from xs_iload_n hΓ dJ2_grow_2_24) rfl ?_
    refine xw_psh (v := (.int (1))) (show xm_Imp g Γ 25 (xi_psh (.int (1)) 26) from xs_iconst hΓ dJ2_grow_2_25 (by decide)) ?_
    refine xw_ii (show xm_Imp g Γ 26 (xi_ii (fun x y => x >>> (y &&& 31)) 27) from xs_ishr hΓ dJ2_grow_2_26) ?_
    obtain ⟨v4, e1, e⟩ := e
    refine xw_sv3 (show xm_Imp g Γ 27 (xi_inv g M_J8_newLength 2 3 30) from xs_invS hG hΓ k_J8_newLength rfl q1038 q435 dJ2_grow_2_27) rfl (fun Q X hQ => K_J8_newLength hG l2 (l1 - l2) (l2 >>> (1 &&& 31)) _ e1 hQ) ?_
    refine xw_ist (ls' := [some (.ref l0), some (.int l1), some (.int l2), some (.int v4)]) (show xm_Imp g Γ 30 (xi_ist 3 31) from xs_istore_n hΓ dJ2_grow_2_30 (Nat.le_of_ble_eq_true rfl)) rfl ?_
    refine xw_ald (show xm_Imp g Γ 31 (xi_ald 0 32) from xs_aload_n hΓ dJ2_grow_2_31) rfl ?_
    refine xw_ald (show xm_Imp g Γ 32 (xi_ald 0 33) from xs_aload_n hΓ dJ2_grow_2_32) rfl ?_
    obtain ⟨v5, e1, e⟩ := e
    refine xw_gr1 (o := (some l0)) (show xm_Imp g Γ 33 (xi_get 12 1 36) from xs_get hG hΓ (ci := 12) (kf := 1) rfl (Nat.le_of_ble_eq_true rfl) q201 dJ2_grow_2_33) rfl e1 ?_
    refine xw_ild (show xm_Imp g Γ 36 (xi_ild 3 37) from xs_iload_n hΓ dJ2_grow_2_36) rfl ?_
    obtain ⟨m6, m7, ⟨em1, em2⟩, e⟩ := e
    refine xw_tsr2 (show xm_Imp g Γ 37 (xi_inv g M_J10_copyOf_2 7 2 40) from xs_invS hG hΓ k_J10_copyOf_2 rfl q1039 q1040 dJ2_grow_2_37) rfl em1 em2 (K_J10_copyOf_2 hG v5 v4 _ _ _ e) (fun v9 h8 e => ?_)
    refine xw_dup_x1 (show xm_Imp g Γ 40 (xi_dup_x1 41) from xs_dup_x1 hΓ dJ2_grow_2_40) ⟨(xm_c1_rf v9), rfl⟩ ?_
    obtain ⟨h10, e1, e⟩ := e
    refine xw_pt1 (o := (some l0)) (show xm_Imp g Γ 41 (xi_put 12 1 (.array (.object "java/lang/Object")) 44) from xs_put hG hΓ (ci := 12) (kf := 1) rfl (Nat.le_of_ble_eq_true rfl) rfl (by decide +kernel) q201 dJ2_grow_2_41) rfl (xv_fit (Or.inr ⟨_, rfl⟩) v9) e1 ?_
    exact xw_areto (show xm_Imp g Γ 44 (xi_aret _) from xs_areturn hΓ rfl (Or.inr ⟨_, rfl⟩) dJ2_grow_2_44) ⟨_, rfl, e⟩
  unfold F_J2_grow_2 at e
  refine xw_ald (show xm_Imp g Γ 0 (xi_ald 0 1) from xs_aload_n hΓ dJ2_grow_2_0) rfl ?_
  obtain ⟨v1, e1, e⟩ := e
  refine xw_gr1 (o := (some p0)) (show xm_Imp g Γ 1 (xi_get 12 1 4) from xs_get hG hΓ (ci := 12) (kf := 1) rfl (Nat.le_of_ble_eq_true rfl) q201 dJ2_grow_2_1) rfl e1 ?_
  obtain ⟨a2, ha2, e⟩ := e
  obtain ⟨v3, e1, e⟩ := e
  refine xw_hlen (o := v1) (show xm_Imp g Γ 4 (xi_len 5) from xs_len hG hΓ dJ2_grow_2_4) ha2 e1 ?_
  refine xw_ist (ls' := [some (.ref p0), some (.int p1), some (.int v3), none]) (show xm_Imp g Γ 5 (xi_ist 2 6) from xs_istore_n hΓ dJ2_grow_2_5 (Nat.le_of_ble_eq_true rfl)) rfl ?_
  refine xw_ild (show xm_Imp g Γ 6 (xi_ild 2 7) from xs_iload_n hΓ dJ2_grow_2_6) rfl ?_
  refine xw_if (show xm_Imp g Γ 7 (xi_if (fun x => 0 < x) 20 10) from xs_if_gt hΓ dJ2_grow_2_7 (by decide)) (fun c => ?_) (fun c => ?_)
  · rw [if_pos c] at e
    exact hB_20 _ _ _ _ _ _ e
  · rw [if_neg c] at e
    refine xw_ald (show xm_Imp g Γ 10 (xi_ald 0 11) from xs_aload_n hΓ dJ2_grow_2_10) rfl ?_
    obtain ⟨v11, e1, e⟩ := e
    refine xw_gr1 (o := (some p0)) (show xm_Imp g Γ 11 (xi_get 12 1 14) from xs_get hG hΓ (ci := 12) (kf := 1) rfl (Nat.le_of_ble_eq_true rfl) q201 dJ2_grow_2_11) rfl e1 ?_
    refine xw_psho (o := xm_sto g "java/util/ArrayList" "DEFAULTCAPACITY_EMPTY_ELEMENTDATA" "[Ljava/lang/Object;") (show xm_Imp g Γ 14 (xi_psh (xm_stv g "java/util/ArrayList" "DEFAULTCAPACITY_EMPTY_ELEMENTDATA" "[Ljava/lang/Object;") 17) from xs_gst hG hΓ (st_DEFAULTCAPACITY_EMPTY_ELEMENTDATA hG) q200 (lw_all_tbl q124) rfl q199 dJ2_grow_2_14) (so_DEFAULTCAPACITY_EMPTY_ELEMENTDATA hG) ?_
    refine xw_acm (o := v11) (o2 := (xm_sto g "java/util/ArrayList" "DEFAULTCAPACITY_EMPTY_ELEMENTDATA" "[Ljava/lang/Object;")) (show xm_Imp g Γ 17 (xi_acm 45 20) from xs_acmp_eq hΓ dJ2_grow_2_17 (by decide)) (fun c => ?_) (fun c => ?_)
    · rw [if_pos c] at e
      refine xw_ald (show xm_Imp g Γ 45 (xi_ald 0 46) from xs_aload_n hΓ dJ2_grow_2_45) rfl ?_
      refine xw_psh (v := (.int (10))) (show xm_Imp g Γ 46 (xi_psh (.int (10)) 48) from xs_bipush hΓ dJ2_grow_2_46 (by decide)) ?_
      refine xw_ild (show xm_Imp g Γ 48 (xi_ild 1 49) from xs_iload_n hΓ dJ2_grow_2_48) rfl ?_
      refine xw_mm (show xm_Imp g Γ 49 (xi_mm (fun x y => if x < y then y else x) 52) from xs_mmax hG hΓ rfl q1083 dJ2_grow_2_49) rfl ?_
      obtain ⟨N16, e1, e⟩ := e
      refine xw_nra (show xm_Imp g Γ 52 (xi_nra "java/lang/Object" 55) from xs_anew hG hΓ (by decide) q1084 q220 dJ2_grow_2_52) e1 e (fun a12 h13 b14 b15 e => ?_)
      refine xw_dup_x1 (show xm_Imp g Γ 55 (xi_dup_x1 56) from xs_dup_x1 hΓ dJ2_grow_2_55) ⟨rfl, rfl⟩ ?_
      obtain ⟨h17, e1, e⟩ := e
      refine xw_pt1 (o := (some p0)) (show xm_Imp g Γ 56 (xi_put 12 1 (.array (.object "java/lang/Object")) 59) from xs_put hG hΓ (ci := 12) (kf := 1) rfl (Nat.le_of_ble_eq_true rfl) rfl (by decide +kernel) q201 dJ2_grow_2_56) rfl (xv_fit (Or.inr ⟨_, rfl⟩) (some a12)) e1 ?_
      exact xw_aret (show xm_Imp g Γ 59 (xi_aret _) from xs_areturn hΓ rfl (Or.inr ⟨_, rfl⟩) dJ2_grow_2_59) ⟨_, rfl, e⟩
    · rw [if_neg c] at e
      exact hB_20 _ _ _ _ _ _ e
noncomputable def B_J2_addAll_56 (g : xm_G) (l0 : Nat) (l2 : Option Nat) (l3 : Int32) (l4 : Option Nat) (l5 : Int32) (h : xm_H) (bc : Nat) (bs : Nat) (Q : Int32 → xm_H → Prop) : Prop :=
 xt_b l2 (fun a15 =>
 xt_b l4 (fun a16 =>
 xt_b (xh_cpq "java/lang/Object" h a15 0 a16 l5 l3) (fun h17 =>
 xt_b (xh_w [(12, 2)] h17 l0 (.int (l5 + l3))) (fun h18 =>
 Q 1 h18))))
noncomputable def F_J2_addAll (g : xm_G) (p0 : Nat) (p1 : Option Nat) (h : xm_H) (bc : Nat) (bs : Nat) (Q : Int32 → xm_H → Prop) : Prop :=
 xt_b p1 (fun a1 =>
 xt_b (xh_ci h a1) (fun c2 =>
 (if c2 = 12 then
 xt_c bc bs (fun m3 m4 => F_J2_toArray g a1 h m3 m4 (fun v6 h5 =>
 xt_b (xh_fi [(12, 0)] h5 p0) (fun v7 =>
 xt_b (xh_w [(12, 0)] h5 p0 (.int (v7 + 1))) (fun h8 =>
 xt_b v6 (fun a9 =>
 xt_b (xh_len h8 a9) (fun v10 =>
 (if v10 = 0 then
 Q 0 h8 else
 xt_b (xh_fr [(12, 1)] h8 p0) (fun v11 =>
 xt_b v11 (fun a12 =>
 xt_b (xh_len h8 a12) (fun v13 =>
 xt_b (xh_fi [(12, 2)] h8 p0) (fun v14 =>
 (if v10 ≤ (v13 - v14) then
 B_J2_addAll_56 g p0 v6 v10 v11 v14 h8 (bc - m3) (bs - m4) Q else
 xt_b (xh_is 12 h8 p0) (fun _ =>
 xt_c (bc - m3) (bs - m4) (fun m19 m20 => F_J2_grow_2 g p0 (v14 + v10) h8 m19 m20 (fun v22 h21 =>
 B_J2_addAll_56 g p0 v6 v10 v22 v14 h21 ((bc - m3) - m19) ((bs - m4) - m20) Q))))))))))))))) else
 (if c2 = 13 then
 xt_b (F_J3_toArray g a1 h) (fun v23 =>
 xt_b (xh_fi [(12, 0)] h p0) (fun v24 =>
 xt_b (xh_w [(12, 0)] h p0 (.int (v24 + 1))) (fun h25 =>
 xt_b v23 (fun a26 =>
 xt_b (xh_len h25 a26) (fun v27 =>
 (if v27 = 0 then
 Q 0 h25 else
 xt_b (xh_fr [(12, 1)] h25 p0) (fun v28 =>
 xt_b v28 (fun a29 =>
 xt_b (xh_len h25 a29) (fun v30 =>
 xt_b (xh_fi [(12, 2)] h25 p0) (fun v31 =>
 (if v27 ≤ (v30 - v31) then
 B_J2_addAll_56 g p0 v23 v27 v28 v31 h25 bc bs Q else
 xt_b (xh_is 12 h25 p0) (fun _ =>
 xt_c bc bs (fun m32 m33 => F_J2_grow_2 g p0 (v31 + v27) h25 m32 m33 (fun v35 h34 =>
 B_J2_addAll_56 g p0 v23 v27 v35 v31 h34 (bc - m32) (bs - m33) Q)))))))))))))) else
 False))))
set_option maxHeartbeats 4000000 in
theorem K_J2_addAll {g : xm_G} (hG : xm_Gw g) (p0 : Nat) (p1 : Option Nat) (h : xm_H) (bc : Nat) (bs : Nat) {Q : Int32 → xm_H → Prop} (e : F_J2_addAll g p0 p1 h bc bs Q) : xm_Run g M_J2_addAll 9 [.ref p0, va_rf p1] h bc bs (fun v h' => ∃ r, v = some (.int r) ∧ Q r h') xm_no := by
  refine xm_Run.of2 (ls := [some (.ref p0), some (va_rf p1), none, none, none, none]) pn_java_util_ArrayList (by cases p1 <;> exact Nat.le_of_ble_eq_true rfl) (by cases p1 <;> rfl) (fun Γ hΓ => ?_)
  show xm_W g Γ 0 [some (.ref p0), some (va_rf p1), none, none, none, none] [] h bc bs
  have hB_56 : ∀ (l0 : Nat) (l2 : Option Nat) (l3 : Int32) (l4 : Option Nat) (l5 : Int32) (h : xm_H) (bc : Nat) (bs : Nat), B_J2_addAll_56 g l0 l2 l3 l4 l5 h bc bs Q → xm_W g Γ 56 [some (.ref l0), none, some (va_rf l2), some (.int l3), some (va_rf l4), some (.int l5)] [] h bc bs := by
    intro l0 l2 l3 l4 l5 h bc bs e
    unfold B_J2_addAll_56 at e
    refine xw_aldo (x := l2) (show xm_Imp g Γ 56 (xi_ald 2 57) from xs_aload_n hΓ dJ2_addAll_56) rfl ?_
    refine xw_psh (v := (.int (0))) (show xm_Imp g Γ 57 (xi_psh (.int (0)) 58) from xs_iconst hΓ dJ2_addAll_57 (by decide)) ?_
    refine xw_aldo (x := l4) (show xm_Imp g Γ 58 (xi_ald 4 60) from xs_aload hΓ dJ2_addAll_58) rfl ?_
    refine xw_ild (show xm_Imp g Γ 60 (xi_ild 5 62) from xs_iload hΓ dJ2_addAll_60) rfl ?_
    refine xw_ild (show xm_Imp g Γ 62 (xi_ild 3 63) from xs_iload_n hΓ dJ2_addAll_62) rfl ?_
    obtain ⟨a15, ha15, e⟩ := e
    obtain ⟨a16, ha16, e⟩ := e
    obtain ⟨h17, e1, e⟩ := e
    refine xw_cpq (o := l2) (o1 := l4) (show xm_Imp g Γ 63 (xi_cpq "java/lang/Object" 66) from xs_cpq hG hΓ rfl q1369 dJ2_addAll_63) ha15 ha16 rfl e1 ?_
    refine xw_ald (show xm_Imp g Γ 66 (xi_ald 0 67) from xs_aload_n hΓ dJ2_addAll_66) rfl ?_
    refine xw_ild (show xm_Imp g Γ 67 (xi_ild 5 69) from xs_iload hΓ dJ2_addAll_67) rfl ?_
    refine xw_ild (show xm_Imp g Γ 69 (xi_ild 3 70) from xs_iload_n hΓ dJ2_addAll_69) rfl ?_
    refine xw_ii (show xm_Imp g Γ 70 (xi_ii (fun x y => x + y) 71) from xs_iadd hΓ dJ2_addAll_70) ?_
    obtain ⟨h18, e1, e⟩ := e
    refine xw_pt1 (o := (some l0)) (show xm_Imp g Γ 71 (xi_put 12 2 (.int) 74) from xs_put hG hΓ (ci := 12) (kf := 2) rfl (Nat.le_of_ble_eq_true rfl) rfl (by decide +kernel) q202 dJ2_addAll_71) rfl (xf_int _) e1 ?_
    refine xw_psh (v := (.int (1))) (show xm_Imp g Γ 74 (xi_psh (.int (1)) 75) from xs_iconst hΓ dJ2_addAll_74 (by decide)) ?_
    exact xw_iret (show xm_Imp g Γ 75 (xi_iret .boolean _) from xs_ireturn hΓ rfl dJ2_addAll_75) rfl ⟨_, rfl, e⟩
  unfold F_J2_addAll at e
  refine xw_aldo (x := p1) (show xm_Imp g Γ 0 (xi_ald 1 1) from xs_aload_n hΓ dJ2_addAll_0) rfl ?_
  obtain ⟨a1, ha1, e⟩ := e
  obtain ⟨c2, e0, e⟩ := e
  by_cases cc0 : c2 = 12
  · rw [if_pos cc0] at e
    obtain ⟨m3, m4, ⟨em1, em2⟩, e⟩ := e
    refine xw_tvr0 (o := p1) (xm_or1 (show xm_Imp g Γ 1 (xi_or (xi_vir g 12 M_J2_toArray 8 0 6) (xi_vir g 13 M_J3_toArray 2 0 6)) from xs_or (xs_invF hG hΓ k_J2_toArray rfl (ci := 12) rfl q1321 q1341 q1339 ⟨by decide, by decide⟩ (by decide +kernel) q1323 q1322 q1342 q1340 q1338 dJ2_addAll_1) (xs_invF hG hΓ k_J3_toArray rfl (ci := 13) rfl q1321 q1327 q1325 ⟨by decide, by decide⟩ (by decide +kernel) q1323 q1322 q1328 q1326 q1324 dJ2_addAll_1))) (by simp [xm_stk, xv_cat, xc_int, xc_long, xc_float, xc_double, xc_ref]) ha1 (xh_is_of e0 cc0) em1 em2 (K_J2_toArray hG a1 _ _ _ e) (fun v6 h5 e => ?_)
    refine xw_asto (x := v6) (ls' := [some (.ref p0), some (va_rf p1), some (va_rf v6), none, none, none]) (show xm_Imp g Γ 6 (xi_ast 2 7) from xs_astore_n hΓ dJ2_addAll_6 (Nat.le_of_ble_eq_true rfl)) ((xm_s1_o (o := p1) rfl).trans rfl) ?_
    refine xw_ald (show xm_Imp g Γ 7 (xi_ald 0 8) from xs_aload_n hΓ dJ2_addAll_7) rfl ?_
    refine xw_dup (show xm_Imp g Γ 8 (xi_dup 9) from xs_dup hΓ dJ2_addAll_8) rfl ?_
    obtain ⟨v7, e1, e⟩ := e
    refine xw_gi1 (o := (some p0)) (show xm_Imp g Γ 9 (xi_get 12 0 12) from xs_getS hG hΓ (ci := 12) (kf := 0) rfl (Nat.le_of_ble_eq_true rfl) q204 q205 dJ2_addAll_9) rfl e1 ?_
    refine xw_psh (v := (.int (1))) (show xm_Imp g Γ 12 (xi_psh (.int (1)) 13) from xs_iconst hΓ dJ2_addAll_12 (by decide)) ?_
    refine xw_ii (show xm_Imp g Γ 13 (xi_ii (fun x y => x + y) 14) from xs_iadd hΓ dJ2_addAll_13) ?_
    obtain ⟨h8, e1, e⟩ := e
    refine xw_pt1 (o := (some p0)) (show xm_Imp g Γ 14 (xi_put 12 0 (.int) 17) from xs_putS hG hΓ (ci := 12) (kf := 0) rfl (Nat.le_of_ble_eq_true rfl) rfl (by decide +kernel) q204 q205 dJ2_addAll_14) rfl (xf_int _) e1 ?_
    refine xw_aldo (x := v6) (show xm_Imp g Γ 17 (xi_ald 2 18) from xs_aload_n hΓ dJ2_addAll_17) rfl ?_
    obtain ⟨a9, ha9, e⟩ := e
    obtain ⟨v10, e1, e⟩ := e
    refine xw_hlen (o := v6) (show xm_Imp g Γ 18 (xi_len 19) from xs_len hG hΓ dJ2_addAll_18) ha9 e1 ?_
    refine xw_ist (ls' := [some (.ref p0), some (va_rf p1), some (va_rf v6), some (.int v10), none, none]) (show xm_Imp g Γ 19 (xi_ist 3 20) from xs_istore_n hΓ dJ2_addAll_19 (Nat.le_of_ble_eq_true rfl)) ((xm_s1_o (o := v6) rfl).trans rfl) ?_
    refine xw_ild (show xm_Imp g Γ 20 (xi_ild 3 21) from xs_iload_n hΓ dJ2_addAll_20) rfl ?_
    refine xw_if (show xm_Imp g Γ 21 (xi_if (fun x => x = 0) 24 26) from xs_if_ne hΓ dJ2_addAll_21 (by decide)) (fun c => ?_) (fun c => ?_)
    · rw [if_pos c] at e
      refine xw_psh (v := (.int (0))) (show xm_Imp g Γ 24 (xi_psh (.int (0)) 25) from xs_iconst hΓ dJ2_addAll_24 (by decide)) ?_
      exact xw_iret (show xm_Imp g Γ 25 (xi_iret .boolean _) from xs_ireturn hΓ rfl dJ2_addAll_25) rfl ⟨_, rfl, e⟩
    · rw [if_neg c] at e
      refine xw_ild (show xm_Imp g Γ 26 (xi_ild 3 27) from xs_iload_n hΓ dJ2_addAll_26) rfl ?_
      refine xw_ald (show xm_Imp g Γ 27 (xi_ald 0 28) from xs_aload_n hΓ dJ2_addAll_27) rfl ?_
      obtain ⟨v11, e1, e⟩ := e
      refine xw_gr1 (o := (some p0)) (show xm_Imp g Γ 28 (xi_get 12 1 31) from xs_get hG hΓ (ci := 12) (kf := 1) rfl (Nat.le_of_ble_eq_true rfl) q201 dJ2_addAll_28) rfl e1 ?_
      refine xw_dup (show xm_Imp g Γ 31 (xi_dup 32) from xs_dup hΓ dJ2_addAll_31) (xm_c1_rf v11) ?_
      refine xw_asto (x := v11) (ls' := [some (.ref p0), some (va_rf p1), some (va_rf v6), some (.int v10), some (va_rf v11), none]) (show xm_Imp g Γ 32 (xi_ast 4 34) from xs_astore hΓ dJ2_addAll_32 (Nat.le_of_ble_eq_true rfl)) rfl ?_
      obtain ⟨a12, ha12, e⟩ := e
      obtain ⟨v13, e1, e⟩ := e
      refine xw_hlen (o := v11) (show xm_Imp g Γ 34 (xi_len 35) from xs_len hG hΓ dJ2_addAll_34) ha12 e1 ?_
      refine xw_ald (show xm_Imp g Γ 35 (xi_ald 0 36) from xs_aload_n hΓ dJ2_addAll_35) rfl ?_
      obtain ⟨v14, e1, e⟩ := e
      refine xw_gi1 (o := (some p0)) (show xm_Imp g Γ 36 (xi_get 12 2 39) from xs_get hG hΓ (ci := 12) (kf := 2) rfl (Nat.le_of_ble_eq_true rfl) q202 dJ2_addAll_36) rfl e1 ?_
      refine xw_dup (show xm_Imp g Γ 39 (xi_dup 40) from xs_dup hΓ dJ2_addAll_39) rfl ?_
      refine xw_ist (ls' := [some (.ref p0), some (va_rf p1), some (va_rf v6), some (.int v10), some (va_rf v11), some (.int v14)]) (show xm_Imp g Γ 40 (xi_ist 5 42) from xs_istore hΓ dJ2_addAll_40 (Nat.le_of_ble_eq_true rfl)) ((xm_s1_o (o := v11) rfl).trans rfl) ?_
      refine xw_ii (show xm_Imp g Γ 42 (xi_ii (fun x y => x - y) 43) from xs_isub hΓ dJ2_addAll_42) ?_
      refine xw_ic (show xm_Imp g Γ 43 (xi_ic (fun x y => x ≤ y) 56 46) from xs_icmp_le hΓ dJ2_addAll_43 (by decide)) (fun c => ?_) (fun c => ?_)
      · rw [if_pos c] at e
        exact xm_lx (hB_56 _ _ _ _ _ _ _ _ e) (And.intro rfl (And.intro rfl (And.intro rfl (And.intro rfl (And.intro rfl (trivial))))))
      · rw [if_neg c] at e
        refine xw_ald (show xm_Imp g Γ 46 (xi_ald 0 47) from xs_aload_n hΓ dJ2_addAll_46) rfl ?_
        refine xw_ild (show xm_Imp g Γ 47 (xi_ild 5 49) from xs_iload hΓ dJ2_addAll_47) rfl ?_
        refine xw_ild (show xm_Imp g Γ 49 (xi_ild 3 50) from xs_iload_n hΓ dJ2_addAll_49) rfl ?_
        refine xw_ii (show xm_Imp g Γ 50 (xi_ii (fun x y => x + y) 51) from xs_iadd hΓ dJ2_addAll_50) ?_
        obtain ⟨_, e0, e⟩ := e
        obtain ⟨m19, m20, ⟨em1, em2⟩, e⟩ := e
        refine xw_tvr1 (o := (some p0)) (show xm_Imp g Γ 51 (xi_vir g 12 M_J2_grow_2 8 1 54) from xs_invV hG hΓ k_J2_grow_2 rfl (ci := 12) rfl q1034 q1036 qs18 dJ2_addAll_51) rfl rfl e0 em1 em2 (K_J2_grow_2 hG p0 (v14 + v10) _ _ _ e) (fun v22 h21 e => ?_)
        refine xw_asto (x := v22) (ls' := [some (.ref p0), some (va_rf p1), some (va_rf v6), some (.int v10), some (va_rf v22), some (.int v14)]) (show xm_Imp g Γ 54 (xi_ast 4 56) from xs_astore hΓ dJ2_addAll_54 (Nat.le_of_ble_eq_true rfl)) rfl ?_
        exact xm_lx (hB_56 _ _ _ _ _ _ _ _ e) (And.intro rfl (And.intro rfl (And.intro rfl (And.intro rfl (And.intro rfl (trivial))))))
  rw [if_neg cc0] at e
  by_cases cc1 : c2 = 13
  · rw [if_pos cc1] at e
    obtain ⟨v23, e1, e⟩ := e
    refine xw_hv0 (o := p1) (xm_or2 (show xm_Imp g Γ 1 (xi_or (xi_vir g 12 M_J2_toArray 8 0 6) (xi_vir g 13 M_J3_toArray 2 0 6)) from xs_or (xs_invF hG hΓ k_J2_toArray rfl (ci := 12) rfl q1321 q1341 q1339 ⟨by decide, by decide⟩ (by decide +kernel) q1323 q1322 q1342 q1340 q1338 dJ2_addAll_1) (xs_invF hG hΓ k_J3_toArray rfl (ci := 13) rfl q1321 q1327 q1325 ⟨by decide, by decide⟩ (by decide +kernel) q1323 q1322 q1328 q1326 q1324 dJ2_addAll_1))) (by simp [xm_stk, xv_cat, xc_int, xc_long, xc_float, xc_double, xc_ref]) ha1 (xh_is_of e0 cc1) (fun Q X hQ => K_J3_toArray hG a1 _ e1 hQ) ?_
    refine xw_asto (x := v23) (ls' := [some (.ref p0), some (va_rf p1), some (va_rf v23), none, none, none]) (show xm_Imp g Γ 6 (xi_ast 2 7) from xs_astore_n hΓ dJ2_addAll_6 (Nat.le_of_ble_eq_true rfl)) ((xm_s1_o (o := p1) rfl).trans rfl) ?_
    refine xw_ald (show xm_Imp g Γ 7 (xi_ald 0 8) from xs_aload_n hΓ dJ2_addAll_7) rfl ?_
    refine xw_dup (show xm_Imp g Γ 8 (xi_dup 9) from xs_dup hΓ dJ2_addAll_8) rfl ?_
    obtain ⟨v24, e1, e⟩ := e
    refine xw_gi1 (o := (some p0)) (show xm_Imp g Γ 9 (xi_get 12 0 12) from xs_getS hG hΓ (ci := 12) (kf := 0) rfl (Nat.le_of_ble_eq_true rfl) q204 q205 dJ2_addAll_9) rfl e1 ?_
    refine xw_psh (v := (.int (1))) (show xm_Imp g Γ 12 (xi_psh (.int (1)) 13) from xs_iconst hΓ dJ2_addAll_12 (by decide)) ?_
    refine xw_ii (show xm_Imp g Γ 13 (xi_ii (fun x y => x + y) 14) from xs_iadd hΓ dJ2_addAll_13) ?_
    obtain ⟨h25, e1, e⟩ := e
    refine xw_pt1 (o := (some p0)) (show xm_Imp g Γ 14 (xi_put 12 0 (.int) 17) from xs_putS hG hΓ (ci := 12) (kf := 0) rfl (Nat.le_of_ble_eq_true rfl) rfl (by decide +kernel) q204 q205 dJ2_addAll_14) rfl (xf_int _) e1 ?_
    refine xw_aldo (x := v23) (show xm_Imp g Γ 17 (xi_ald 2 18) from xs_aload_n hΓ dJ2_addAll_17) rfl ?_
    obtain ⟨a26, ha26, e⟩ := e
    obtain ⟨v27, e1, e⟩ := e
    refine xw_hlen (o := v23) (show xm_Imp g Γ 18 (xi_len 19) from xs_len hG hΓ dJ2_addAll_18) ha26 e1 ?_
    refine xw_ist (ls' := [some (.ref p0), some (va_rf p1), some (va_rf v23), some (.int v27), none, none]) (show xm_Imp g Γ 19 (xi_ist 3 20) from xs_istore_n hΓ dJ2_addAll_19 (Nat.le_of_ble_eq_true rfl)) ((xm_s1_o (o := v23) rfl).trans rfl) ?_
    refine xw_ild (show xm_Imp g Γ 20 (xi_ild 3 21) from xs_iload_n hΓ dJ2_addAll_20) rfl ?_
    refine xw_if (show xm_Imp g Γ 21 (xi_if (fun x => x = 0) 24 26) from xs_if_ne hΓ dJ2_addAll_21 (by decide)) (fun c => ?_) (fun c => ?_)
    · rw [if_pos c] at e
      refine xw_psh (v := (.int (0))) (show xm_Imp g Γ 24 (xi_psh (.int (0)) 25) from xs_iconst hΓ dJ2_addAll_24 (by decide)) ?_
      exact xw_iret (show xm_Imp g Γ 25 (xi_iret .boolean _) from xs_ireturn hΓ rfl dJ2_addAll_25) rfl ⟨_, rfl, e⟩
    · rw [if_neg c] at e
      refine xw_ild (show xm_Imp g Γ 26 (xi_ild 3 27) from xs_iload_n hΓ dJ2_addAll_26) rfl ?_
      refine xw_ald (show xm_Imp g Γ 27 (xi_ald 0 28) from xs_aload_n hΓ dJ2_addAll_27) rfl ?_
      obtain ⟨v28, e1, e⟩ := e
      refine xw_gr1 (o := (some p0)) (show xm_Imp g Γ 28 (xi_get 12 1 31) from xs_get hG hΓ (ci := 12) (kf := 1) rfl (Nat.le_of_ble_eq_true rfl) q201 dJ2_addAll_28) rfl e1 ?_
      refine xw_dup (show xm_Imp g Γ 31 (xi_dup 32) from xs_dup hΓ dJ2_addAll_31) (xm_c1_rf v28) ?_
      refine xw_asto (x := v28) (ls' := [some (.ref p0), some (va_rf p1), some (va_rf v23), some (.int v27), some (va_rf v28), none]) (show xm_Imp g Γ 32 (xi_ast 4 34) from xs_astore hΓ dJ2_addAll_32 (Nat.le_of_ble_eq_true rfl)) rfl ?_
      obtain ⟨a29, ha29, e⟩ := e
      obtain ⟨v30, e1, e⟩ := e
      refine xw_hlen (o := v28) (show xm_Imp g Γ 34 (xi_len 35) from xs_len hG hΓ dJ2_addAll_34) ha29 e1 ?_
      refine xw_ald (show xm_Imp g Γ 35 (xi_ald 0 36) from xs_aload_n hΓ dJ2_addAll_35) rfl ?_
      obtain ⟨v31, e1, e⟩ := e
      refine xw_gi1 (o := (some p0)) (show xm_Imp g Γ 36 (xi_get 12 2 39) from xs_get hG hΓ (ci := 12) (kf := 2) rfl (Nat.le_of_ble_eq_true rfl) q202 dJ2_addAll_36) rfl e1 ?_
      refine xw_dup (show xm_Imp g Γ 39 (xi_dup 40) from xs_dup hΓ dJ2_addAll_39) rfl ?_
      refine xw_ist (ls' := [some (.ref p0), some (va_rf p1), some (va_rf v23), some (.int v27), some (va_rf v28), some (.int v31)]) (show xm_Imp g Γ 40 (xi_ist 5 42) from xs_istore hΓ dJ2_addAll_40 (Nat.le_of_ble_eq_true rfl)) ((xm_s1_o (o := v28) rfl).trans rfl) ?_
      refine xw_ii (show xm_Imp g Γ 42 (xi_ii (fun x y => x - y) 43) from xs_isub hΓ dJ2_addAll_42) ?_
      refine xw_ic (show xm_Imp g Γ 43 (xi_ic (fun x y => x ≤ y) 56 46) from xs_icmp_le hΓ dJ2_addAll_43 (by decide)) (fun c => ?_) (fun c => ?_)
      · rw [if_pos c] at e
        exact xm_lx (hB_56 _ _ _ _ _ _ _ _ e) (And.intro rfl (And.intro rfl (And.intro rfl (And.intro rfl (And.intro rfl (trivial))))))
      · rw [if_neg c] at e
        refine xw_ald (show xm_Imp g Γ 46 (xi_ald 0 47) from xs_aload_n hΓ dJ2_addAll_46) rfl ?_
        refine xw_ild (show xm_Imp g Γ 47 (xi_ild 5 49) from xs_iload hΓ dJ2_addAll_47) rfl ?_
        refine xw_ild (show xm_Imp g Γ 49 (xi_ild 3 50) from xs_iload_n hΓ dJ2_addAll_49) rfl ?_
        refine xw_ii (show xm_Imp g Γ 50 (xi_ii (fun x y => x + y) 51) from xs_iadd hΓ dJ2_addAll_50) ?_
        obtain ⟨_, e0, e⟩ := e
        obtain ⟨m32, m33, ⟨em1, em2⟩, e⟩ := e
        refine xw_tvr1 (o := (some p0)) (show xm_Imp g Γ 51 (xi_vir g 12 M_J2_grow_2 8 1 54) from xs_invV hG hΓ k_J2_grow_2 rfl (ci := 12) rfl q1034 q1036 qs18 dJ2_addAll_51) rfl rfl e0 em1 em2 (K_J2_grow_2 hG p0 (v31 + v27) _ _ _ e) (fun v35 h34 e => ?_)
        refine xw_asto (x := v35) (ls' := [some (.ref p0), some (va_rf p1), some (va_rf v23), some (.int v27), some (va_rf v35), some (.int v31)]) (show xm_Imp g Γ 54 (xi_ast 4 56) from xs_astore hΓ dJ2_addAll_54 (Nat.le_of_ble_eq_true rfl)) rfl ?_
        exact xm_lx (hB_56 _ _ _ _ _ _ _ _ e) (And.intro rfl (And.intro rfl (And.intro rfl (And.intro rfl (And.intro rfl (trivial))))))
  rw [if_neg cc1] at e
  exact e.elim
def F_J3_sub (p0 : Int32) (p1 : Int32) (p2 : Int32) : Int32 :=
 (if 0 ≤ (p0 - p1) then
 p0 - p1 else
 (p0 - p1) + p2)
set_option maxHeartbeats 4000000 in
theorem K_J3_sub {g : xm_G} (hG : xm_Gw g) {h : xm_H} (p0 : Int32) (p1 : Int32) (p2 : Int32) {o : Int32} (e : F_J3_sub p0 p1 p2 = o) {Q : xm_P} {X : xm_X} (hQ : Q (some (.int o)) h) : xm_Run g M_J3_sub 1 [.int p0, .int p1, .int p2] h 0 0 Q X := by
  refine xm_Run.of pn_java_util_ArrayDeque (Nat.le_of_ble_eq_true rfl) (fun Γ hΓ => ?_)
  obtain ⟨P0, hP0, hp⟩ : ∃ P : Int32 → Prop, (∀ o, P o → Q (some (.int o)) h) ∧ P o := ⟨fun o => Q (some (.int o)) h, fun _ h => h, hQ⟩
  clear hQ
  show xm_W g Γ 0 [some (.int p0), some (.int p1), some (.int p2)] [] h 0 0
  unfold F_J3_sub at e
  refine xw_ild (show xm_Imp g Γ 0 (xi_ild 0 1) from xs_iload_n hΓ dJ3_sub_0) rfl ?_
  refine xw_ild (show xm_Imp g Γ 1 (xi_ild 1 2) from xs_iload_n hΓ dJ3_sub_1) rfl ?_
  refine xw_ii (show xm_Imp g Γ 2 (xi_ii (fun x y => x - y) 3) from xs_isub hΓ dJ3_sub_2) ?_
  refine xw_dup (show xm_Imp g Γ 3 (xi_dup 4) from xs_dup hΓ dJ3_sub_3) rfl ?_
  refine xw_ist (ls' := [some (.int (p0 - p1)), some (.int p1), some (.int p2)]) (show xm_Imp g Γ 4 (xi_ist 0 5) from xs_istore_n hΓ dJ3_sub_4 (Nat.le_of_ble_eq_true rfl)) rfl ?_
  refine xw_if (show xm_Imp g Γ 5 (xi_if (fun x => 0 ≤ x) 12 8) from xs_if_ge hΓ dJ3_sub_5 (by decide)) (fun c => ?_) (fun c => ?_)
  · rw [if_pos c] at e
    refine xw_ild (show xm_Imp g Γ 12 (xi_ild 0 13) from xs_iload_n hΓ dJ3_sub_12) rfl ?_
    exact xw_iret (show xm_Imp g Γ 13 (xi_iret .int _) from xs_ireturn hΓ rfl dJ3_sub_13) (xn_int _) (hP0 _ (xl_finV e hp))
  · rw [if_neg c] at e
    refine xw_ild (show xm_Imp g Γ 8 (xi_ild 0 9) from xs_iload_n hΓ dJ3_sub_8) rfl ?_
    refine xw_ild (show xm_Imp g Γ 9 (xi_ild 2 10) from xs_iload_n hΓ dJ3_sub_9) rfl ?_
    refine xw_ii (show xm_Imp g Γ 10 (xi_ii (fun x y => x + y) 11) from xs_iadd hΓ dJ3_sub_10) ?_
    refine xw_ist (ls' := [some (.int ((p0 - p1) + p2)), some (.int p1), some (.int p2)]) (show xm_Imp g Γ 11 (xi_ist 0 12) from xs_istore_n hΓ dJ3_sub_11 (Nat.le_of_ble_eq_true rfl)) rfl ?_
    refine xw_ild (show xm_Imp g Γ 12 (xi_ild 0 13) from xs_iload_n hΓ dJ3_sub_12) rfl ?_
    exact xw_iret (show xm_Imp g Γ 13 (xi_iret .int _) from xs_ireturn hΓ rfl dJ3_sub_13) (xn_int _) (hP0 _ (xl_finV e hp))
noncomputable def F_J3_size (g : xm_G) (p0 : Nat) (h : xm_H) : Option (Int32) :=
 xo_b (xh_fi [(13, 2)] h p0) (fun v1 =>
 xo_b (xh_fi [(13, 1)] h p0) (fun v2 =>
 xo_b (xh_fr [(13, 0)] h p0) (fun v3 =>
 xo_b v3 (fun a4 =>
 xo_b (xh_len h a4) (fun v5 =>
 some (F_J3_sub v1 v2 v5))))))
set_option maxHeartbeats 4000000 in
theorem K_J3_size {g : xm_G} (hG : xm_Gw g) (p0 : Nat) (h : xm_H) {o : Int32} (e : F_J3_size g p0 h = some o) {Q : xm_P} {X : xm_X} (hQ : Q (some (.int o)) h) : xm_Run g M_J3_size 2 [.ref p0] h 0 0 Q X := by
  refine xm_Run.of pn_java_util_ArrayDeque (Nat.le_of_ble_eq_true rfl) (fun Γ hΓ => ?_)
  obtain ⟨P0, hP0, hp⟩ : ∃ P : Int32 → Prop, (∀ o, P o → Q (some (.int o)) h) ∧ P o := ⟨fun o => Q (some (.int o)) h, fun _ h => h, hQ⟩
  clear hQ
  show xm_W g Γ 0 [some (.ref p0)] [] h 0 0
  unfold F_J3_size at e
  refine xw_ald (show xm_Imp g Γ 0 (xi_ald 0 1) from xs_aload_n hΓ dJ3_size_0) rfl ?_
  obtain ⟨v1, e1, e⟩ := xo_b_s e
  refine xw_gi1 (o := (some p0)) (show xm_Imp g Γ 1 (xi_get 13 2 4) from xs_get hG hΓ (ci := 13) (kf := 2) rfl (Nat.le_of_ble_eq_true rfl) q225 dJ3_size_1) rfl e1 ?_
  refine xw_ald (show xm_Imp g Γ 4 (xi_ald 0 5) from xs_aload_n hΓ dJ3_size_4) rfl ?_
  obtain ⟨v2, e1, e⟩ := xo_b_s e
  refine xw_gi1 (o := (some p0)) (show xm_Imp g Γ 5 (xi_get 13 1 8) from xs_get hG hΓ (ci := 13) (kf := 1) rfl (Nat.le_of_ble_eq_true rfl) q224 dJ3_size_5) rfl e1 ?_
  refine xw_ald (show xm_Imp g Γ 8 (xi_ald 0 9) from xs_aload_n hΓ dJ3_size_8) rfl ?_
  obtain ⟨v3, e1, e⟩ := xo_b_s e
  refine xw_gr1 (o := (some p0)) (show xm_Imp g Γ 9 (xi_get 13 0 12) from xs_get hG hΓ (ci := 13) (kf := 0) rfl (Nat.le_of_ble_eq_true rfl) q221 dJ3_size_9) rfl e1 ?_
  obtain ⟨a4, ha4, e⟩ := xo_b_s e
  obtain ⟨v5, e1, e⟩ := xo_b_s e
  refine xw_hlen (o := v3) (show xm_Imp g Γ 12 (xi_len 13) from xs_len hG hΓ dJ3_size_12) ha4 e1 ?_
  refine xw_sv3 (show xm_Imp g Γ 13 (xi_inv g M_J3_sub 1 3 16) from xs_invS hG hΓ k_J3_sub rfl q1169 q1170 dJ3_size_13) rfl (fun Q X hQ => K_J3_sub hG v1 v2 v5 rfl hQ) ?_
  have hq := hP0 _ (xl_fin e hp)
  exact xw_iret (show xm_Imp g Γ 16 (xi_iret .int _) from xs_ireturn hΓ rfl dJ3_size_16) (xn_int _) hq
noncomputable def F_J23_init (g : xm_G) (p0 : Nat) (p1 : Option Nat) (h : xm_H) : Option (xm_H) :=
 xo_b (xh_w [(16, 3)] h p0 (va_rf p1)) (fun h1 =>
 xo_b (xh_fr [(16, 3)] h1 p0) (fun v2 =>
 xo_b v2 (fun a3 =>
 xo_b (xh_is 13 h1 a3) (fun _ =>
 xo_b (F_J3_size g a3 h1) (fun v4 =>
 xo_b (xh_w [(16, 1)] h1 p0 (.int v4)) (fun h5 =>
 xo_b (xh_w [(16, 2)] h5 p0 (.int (-1))) (fun h6 =>
 xo_b p1 (fun a7 =>
 xo_b (xh_fi [(13, 1)] h6 a7) (fun v8 =>
 xo_b (xh_w [(16, 0)] h6 p0 (.int v8)) (fun h9 =>
 some h9))))))))))
set_option maxHeartbeats 4000000 in
theorem K_J23_init {g : xm_G} (hG : xm_Gw g) (p0 : Nat) (p1 : Option Nat) (h : xm_H) {o : xm_H} (e : F_J23_init g p0 p1 h = some o) {Q : xm_P} {X : xm_X} (hQ : Q none o) : xm_Run g M_J23_init 3 [.ref p0, va_rf p1] h 0 0 Q X := by
  refine xm_Run.of2 (ls := [some (.ref p0), some (va_rf p1)]) pn_java_util_ArrayDeque_DeqIterator (by cases p1 <;> exact Nat.le_of_ble_eq_true rfl) (by cases p1 <;> rfl) (fun Γ hΓ => ?_)
  obtain ⟨P0, hP0, hp⟩ : ∃ P : xm_H → Prop, (∀ o, P o → Q none o) ∧ P o := ⟨fun o => Q none o, fun _ h => h, hQ⟩
  clear hQ
  show xm_W g Γ 0 [some (.ref p0), some (va_rf p1)] [] h 0 0
  unfold F_J23_init at e
  refine xw_ald (show xm_Imp g Γ 0 (xi_ald 0 1) from xs_aload_n hΓ dJ23_init_0) rfl ?_
  refine xw_aldo (x := p1) (show xm_Imp g Γ 1 (xi_ald 1 2) from xs_aload_n hΓ dJ23_init_1) rfl ?_
  obtain ⟨h1, e1, e⟩ := xo_b_s e
  refine xw_pt1 (o := (some p0)) (show xm_Imp g Γ 2 (xi_put 16 3 (.object "java/util/ArrayDeque") 5) from xs_putF hG hΓ (ci := 16) (kf := 3) rfl (Nat.le_of_ble_eq_true rfl) rfl rfl rfl (by decide +kernel) q1384 dJ23_init_2) rfl (xv_fit (Or.inl ⟨_, rfl⟩) p1) e1 ?_
  refine xw_ald (show xm_Imp g Γ 5 (xi_ald 0 6) from xs_aload_n hΓ dJ23_init_5) rfl ?_
  refine xw_obj (o := some p0) (show xm_Imp g Γ 6 (xi_obj 9) from xs_obj hG hΓ rfl q1379 dJ23_init_6) rfl rfl ?_
  refine xw_ald (show xm_Imp g Γ 9 (xi_ald 0 10) from xs_aload_n hΓ dJ23_init_9) rfl ?_
  refine xw_ald (show xm_Imp g Γ 10 (xi_ald 0 11) from xs_aload_n hΓ dJ23_init_10) rfl ?_
  obtain ⟨v2, e1, e⟩ := xo_b_s e
  refine xw_gr1 (o := (some p0)) (show xm_Imp g Γ 11 (xi_get 16 3 14) from xs_get hG hΓ (ci := 16) (kf := 3) rfl (Nat.le_of_ble_eq_true rfl) q1384 dJ23_init_11) rfl e1 ?_
  obtain ⟨a3, ha3, e⟩ := xo_b_s e
  obtain ⟨_, e0, e⟩ := xo_b_s e
  obtain ⟨v4, e1, e⟩ := xo_b_s e
  refine xw_hv0 (o := v2) (show xm_Imp g Γ 14 (xi_vir g 13 M_J3_size 2 0 17) from xs_invV hG hΓ k_J3_size rfl (ci := 13) rfl q1380 q1166 q1167 dJ23_init_14) (by simp [xm_stk, xv_cat, xc_int, xc_long, xc_float, xc_double, xc_ref]) ha3 e0 (fun Q X hQ => K_J3_size hG a3 _ e1 hQ) ?_
  obtain ⟨h5, e1, e⟩ := xo_b_s e
  refine xw_pt1 (o := (some p0)) (show xm_Imp g Γ 17 (xi_put 16 1 (.int) 20) from xs_put hG hΓ (ci := 16) (kf := 1) rfl (Nat.le_of_ble_eq_true rfl) rfl (by decide +kernel) q1382 dJ23_init_17) rfl (xf_int _) e1 ?_
  refine xw_ald (show xm_Imp g Γ 20 (xi_ald 0 21) from xs_aload_n hΓ dJ23_init_20) rfl ?_
  refine xw_psh (v := (.int (-1))) (show xm_Imp g Γ 21 (xi_psh (.int (-1)) 22) from xs_iconst hΓ dJ23_init_21 (by decide)) ?_
  obtain ⟨h6, e1, e⟩ := xo_b_s e
  refine xw_pt1 (o := (some p0)) (show xm_Imp g Γ 22 (xi_put 16 2 (.int) 25) from xs_put hG hΓ (ci := 16) (kf := 2) rfl (Nat.le_of_ble_eq_true rfl) rfl (by decide +kernel) q1383 dJ23_init_22) rfl (xf_int _) e1 ?_
  refine xw_ald (show xm_Imp g Γ 25 (xi_ald 0 26) from xs_aload_n hΓ dJ23_init_25) rfl ?_
  refine xw_aldo (x := p1) (show xm_Imp g Γ 26 (xi_ald 1 27) from xs_aload_n hΓ dJ23_init_26) rfl ?_
  obtain ⟨a7, ha7, e⟩ := xo_b_s e
  obtain ⟨v8, e1, e⟩ := xo_b_s e
  refine xw_gi1 (o := p1) (show xm_Imp g Γ 27 (xi_get 13 1 30) from xs_get hG hΓ (ci := 13) (kf := 1) rfl (Nat.le_of_ble_eq_true rfl) q223 dJ23_init_27) ha7 e1 ?_
  obtain ⟨h9, e1, e⟩ := xo_b_s e
  refine xw_pt1 (o := (some p0)) (show xm_Imp g Γ 30 (xi_put 16 0 (.int) 33) from xs_put hG hΓ (ci := 16) (kf := 0) rfl (Nat.le_of_ble_eq_true rfl) rfl (by decide +kernel) q1381 dJ23_init_30) rfl (xf_int _) e1 ?_
  exact xw_vret (show xm_Imp g Γ 33 (xi_vret _) from xs_return hΓ rfl dJ23_init_33) (hP0 _ (xl_fin e hp))
noncomputable def F_J3_iterator (g : xm_G) (p0 : Nat) (h : xm_H) (bc : Nat) (bs : Nat) (Q : Option Nat → xm_H → Prop) : Prop :=
 xt_new h bc bs 4 (.inr (16, [.int 0, .int 0, .int 0, .null])) (fun a1 h2 b3 b4 =>
 xt_b (F_J23_init g a1 (some p0) h2) (fun v5 =>
 Q (some a1) v5))
set_option maxHeartbeats 4000000 in
theorem K_J3_iterator {g : xm_G} (hG : xm_Gw g) (p0 : Nat) (h : xm_H) (bc : Nat) (bs : Nat) {Q : Option Nat → xm_H → Prop} (e : F_J3_iterator g p0 h bc bs Q) : xm_Run g M_J3_iterator 4 [.ref p0] h bc bs (fun v h' => ∃ r, v = some (va_rf r) ∧ Q r h') xm_no := by
  refine xm_Run.of pn_java_util_ArrayDeque (Nat.le_of_ble_eq_true rfl) (fun Γ hΓ => ?_)
  show xm_W g Γ 0 [some (.ref p0)] [] h bc bs
  unfold F_J3_iterator at e
  refine xw_new (show xm_Imp g Γ 0 (xi_new 16 4 [.int 0, .int 0, .int 0, .null] 3) from xs_new hG hΓ (ci := 16) rfl q1374 q1375 q155 rfl tyJ23 tyJ23_ok (xm_df 4 (by decide +kernel)) dJ3_iterator_0) e (fun a1 h2 b3 b4 e => ?_)
  refine xw_dup (show xm_Imp g Γ 3 (xi_dup 4) from xs_dup hΓ dJ3_iterator_3) rfl ?_
  refine xw_ald (show xm_Imp g Γ 4 (xi_ald 0 5) from xs_aload_n hΓ dJ3_iterator_4) rfl ?_
  obtain ⟨v5, e1, e⟩ := e
  refine xw_pu1 (o := (some a1)) (show xm_Imp g Γ 5 (xi_spe g M_J23_init 3 1 8) from xs_invI hG hΓ k_J23_init rfl q1376 q1377 rfl dJ3_iterator_5) rfl rfl (fun Q X hQ => K_J23_init hG a1 (some p0) _ e1 hQ) ?_
  exact xw_aret (show xm_Imp g Γ 8 (xi_aret _) from xs_areturn hΓ rfl (Or.inl ⟨_, rfl⟩) dJ3_iterator_8) ⟨_, rfl, e⟩
noncomputable def F_X12_hasNext (g : xm_G) (p0 : Nat) (h : xm_H) : Option (Int32) :=
 xo_b (xh_fi [(10, 0)] h p0) (fun v1 =>
 xo_b (xh_fr [(10, 1)] h p0) (fun v2 =>
 xo_b v2 (fun a3 =>
 xo_b (xh_fr [(2, 0)] h a3) (fun v4 =>
 xo_b v4 (fun a5 =>
 xo_b (xh_len h a5) (fun v6 =>
 (if (1 <<< (v6 &&& 31)) ≤ v1 then
 some 0 else
 some 1)))))))
set_option maxHeartbeats 4000000 in
theorem K_X12_hasNext {g : xm_G} (hG : xm_Gw g) (p0 : Nat) (h : xm_H) {o : Int32} (e : F_X12_hasNext g p0 h = some o) {Q : xm_P} {X : xm_X} (hQ : Q (some (.int o)) h) : xm_Run g M_X12_hasNext 1 [.ref p0] h 0 0 Q X := by
  refine xm_Run.of pn_StringTableau_Tableau_1 (Nat.le_of_ble_eq_true rfl) (fun Γ hΓ => ?_)
  obtain ⟨P0, hP0, hp⟩ : ∃ P : Int32 → Prop, (∀ o, P o → Q (some (.int o)) h) ∧ P o := ⟨fun o => Q (some (.int o)) h, fun _ h => h, hQ⟩
  clear hQ
  show xm_W g Γ 0 [some (.ref p0)] [] h 0 0
  unfold F_X12_hasNext at e
  refine xw_ald (show xm_Imp g Γ 0 (xi_ald 0 1) from xs_aload_n hΓ dX12_hasNext_0) rfl ?_
  obtain ⟨v1, e1, e⟩ := xo_b_s e
  refine xw_gi1 (o := (some p0)) (show xm_Imp g Γ 1 (xi_get 10 0 4) from xs_get hG hΓ (ci := 10) (kf := 0) rfl (Nat.le_of_ble_eq_true rfl) q1647 dX12_hasNext_1) rfl e1 ?_
  refine xw_psh (v := (.int (1))) (show xm_Imp g Γ 4 (xi_psh (.int (1)) 5) from xs_iconst hΓ dX12_hasNext_4 (by decide)) ?_
  refine xw_ald (show xm_Imp g Γ 5 (xi_ald 0 6) from xs_aload_n hΓ dX12_hasNext_5) rfl ?_
  obtain ⟨v2, e1, e⟩ := xo_b_s e
  refine xw_gr1 (o := (some p0)) (show xm_Imp g Γ 6 (xi_get 10 1 9) from xs_get hG hΓ (ci := 10) (kf := 1) rfl (Nat.le_of_ble_eq_true rfl) q1648 dX12_hasNext_6) rfl e1 ?_
  obtain ⟨a3, ha3, e⟩ := xo_b_s e
  obtain ⟨v4, e1, e⟩ := xo_b_s e
  refine xw_gr1 (o := v2) (show xm_Imp g Γ 9 (xi_get 2 0 12) from xs_getN hG hΓ (ci := 2) (kf := 0) rfl (Nat.le_of_ble_eq_true rfl) q270 dX12_hasNext_9) ha3 e1 ?_
  obtain ⟨a5, ha5, e⟩ := xo_b_s e
  obtain ⟨v6, e1, e⟩ := xo_b_s e
  refine xw_hlen (o := v4) (show xm_Imp g Γ 12 (xi_len 13) from xs_len hG hΓ dX12_hasNext_12) ha5 e1 ?_
  refine xw_ii (show xm_Imp g Γ 13 (xi_ii (fun x y => x <<< (y &&& 31)) 14) from xs_ishl hΓ dX12_hasNext_13) ?_
  refine xw_ic (show xm_Imp g Γ 14 (xi_ic (fun x y => y ≤ x) 21 17) from xs_icmp_ge hΓ dX12_hasNext_14 (by decide)) (fun c => ?_) (fun c => ?_)
  · rw [if_pos c] at e
    refine xw_psh (v := (.int (0))) (show xm_Imp g Γ 21 (xi_psh (.int (0)) 22) from xs_iconst hΓ dX12_hasNext_21 (by decide)) ?_
    have hq := hP0 _ (xl_fin e hp)
    exact xw_iret (show xm_Imp g Γ 22 (xi_iret .boolean _) from xs_ireturn hΓ rfl dX12_hasNext_22) rfl hq
  · rw [if_neg c] at e
    refine xw_psh (v := (.int (1))) (show xm_Imp g Γ 17 (xi_psh (.int (1)) 18) from xs_iconst hΓ dX12_hasNext_17 (by decide)) ?_
    refine xw_goto (show xm_Imp g Γ 18 (xi_goto 22) from xs_goto hΓ dX12_hasNext_18 (by decide)) ?_
    have hq := hP0 _ (xl_fin e hp)
    exact xw_iret (show xm_Imp g Γ 22 (xi_iret .boolean _) from xs_ireturn hΓ rfl dX12_hasNext_22) rfl hq
noncomputable def F_J23_hasNext (g : xm_G) (p0 : Nat) (h : xm_H) : Option (Int32) :=
 xo_b (xh_fi [(16, 1)] h p0) (fun v1 =>
 (if v1 ≤ 0 then
 some 0 else
 some 1))
set_option maxHeartbeats 4000000 in
theorem K_J23_hasNext {g : xm_G} (hG : xm_Gw g) (p0 : Nat) (h : xm_H) {o : Int32} (e : F_J23_hasNext g p0 h = some o) {Q : xm_P} {X : xm_X} (hQ : Q (some (.int o)) h) : xm_Run g M_J23_hasNext 1 [.ref p0] h 0 0 Q X := by
  refine xm_Run.of pn_java_util_ArrayDeque_DeqIterator (Nat.le_of_ble_eq_true rfl) (fun Γ hΓ => ?_)
  obtain ⟨P0, hP0, hp⟩ : ∃ P : Int32 → Prop, (∀ o, P o → Q (some (.int o)) h) ∧ P o := ⟨fun o => Q (some (.int o)) h, fun _ h => h, hQ⟩
  clear hQ
  show xm_W g Γ 0 [some (.ref p0)] [] h 0 0
  unfold F_J23_hasNext at e
  refine xw_ald (show xm_Imp g Γ 0 (xi_ald 0 1) from xs_aload_n hΓ dJ23_hasNext_0) rfl ?_
  obtain ⟨v1, e1, e⟩ := xo_b_s e
  refine xw_gi1 (o := (some p0)) (show xm_Imp g Γ 1 (xi_get 16 1 4) from xs_get hG hΓ (ci := 16) (kf := 1) rfl (Nat.le_of_ble_eq_true rfl) q1382 dJ23_hasNext_1) rfl e1 ?_
  refine xw_if (show xm_Imp g Γ 4 (xi_if (fun x => x ≤ 0) 11 7) from xs_if_le hΓ dJ23_hasNext_4 (by decide)) (fun c => ?_) (fun c => ?_)
  · rw [if_pos c] at e
    refine xw_psh (v := (.int (0))) (show xm_Imp g Γ 11 (xi_psh (.int (0)) 12) from xs_iconst hΓ dJ23_hasNext_11 (by decide)) ?_
    have hq := hP0 _ (xl_fin e hp)
    exact xw_iret (show xm_Imp g Γ 12 (xi_iret .boolean _) from xs_ireturn hΓ rfl dJ23_hasNext_12) rfl hq
  · rw [if_neg c] at e
    refine xw_psh (v := (.int (1))) (show xm_Imp g Γ 7 (xi_psh (.int (1)) 8) from xs_iconst hΓ dJ23_hasNext_7 (by decide)) ?_
    refine xw_goto (show xm_Imp g Γ 8 (xi_goto 12) from xs_goto hΓ dJ23_hasNext_8 (by decide)) ?_
    have hq := hP0 _ (xl_fin e hp)
    exact xw_iret (show xm_Imp g Γ 12 (xi_iret .boolean _) from xs_ireturn hΓ rfl dJ23_hasNext_12) rfl hq
noncomputable def F_X12_next_2 (g : xm_G) (p0 : Nat) (h : xm_H) (bc : Nat) (bs : Nat) (Q : Option Nat → xm_H → Prop) : Prop :=
 xt_b (xh_is 10 h p0) (fun _ =>
 xt_b (F_X12_hasNext g p0 h) (fun v1 =>
 (if v1 = 0 then
 False else
 xt_b (xh_fr [(10, 1)] h p0) (fun v2 =>
 xt_b (xh_fi [(10, 0)] h p0) (fun v3 =>
 xt_b v2 (fun a4 =>
 xt_b (xh_is 2 h a4) (fun _ =>
 xt_c bc bs (fun m5 m6 => F_X3_element g a4 v3 h m5 m6 (fun v8 h7 =>
 xt_b (xh_fi [(10, 0)] h7 p0) (fun v9 =>
 xt_b (xh_w [(10, 0)] h7 p0 (.int (v9 + 1))) (fun h10 =>
 Q v8 h10)))))))))))
set_option maxHeartbeats 4000000 in
theorem K_X12_next_2 {g : xm_G} (hG : xm_Gw g) (p0 : Nat) (h : xm_H) (bc : Nat) (bs : Nat) {Q : Option Nat → xm_H → Prop} (e : F_X12_next_2 g p0 h bc bs Q) : xm_Run g M_X12_next_2 8 [.ref p0] h bc bs (fun v h' => ∃ r, v = some (va_rf r) ∧ Q r h') xm_no := by
  refine xm_Run.of pn_StringTableau_Tableau_1 (Nat.le_of_ble_eq_true rfl) (fun Γ hΓ => ?_)
  show xm_W g Γ 0 [some (.ref p0), none] [] h bc bs
  unfold F_X12_next_2 at e
  refine xw_ald (show xm_Imp g Γ 0 (xi_ald 0 1) from xs_aload_n hΓ dX12_next_2_0) rfl ?_
  obtain ⟨_, e0, e⟩ := e
  obtain ⟨v1, e1, e⟩ := e
  refine xw_hv0 (o := (some p0)) (show xm_Imp g Γ 1 (xi_vir g 10 M_X12_hasNext 1 0 4) from xs_invV hG hΓ k_X12_hasNext rfl (ci := 10) rfl q1423 q1401 q3533 dX12_next_2_1) rfl rfl e0 (fun Q X hQ => K_X12_hasNext hG p0 _ e1 hQ) ?_
  refine xw_if (show xm_Imp g Γ 4 (xi_if (fun x => x = 0) 7 15) from xs_if_ne hΓ dX12_next_2_4 (by decide)) (fun c => ?_) (fun c => ?_)
  · rw [if_pos c] at e
    exact e.elim
  · rw [if_neg c] at e
    refine xw_ald (show xm_Imp g Γ 15 (xi_ald 0 16) from xs_aload_n hΓ dX12_next_2_15) rfl ?_
    obtain ⟨v2, e1, e⟩ := e
    refine xw_gr1 (o := (some p0)) (show xm_Imp g Γ 16 (xi_get 10 1 19) from xs_get hG hΓ (ci := 10) (kf := 1) rfl (Nat.le_of_ble_eq_true rfl) q1648 dX12_next_2_16) rfl e1 ?_
    refine xw_ald (show xm_Imp g Γ 19 (xi_ald 0 20) from xs_aload_n hΓ dX12_next_2_19) rfl ?_
    obtain ⟨v3, e1, e⟩ := e
    refine xw_gi1 (o := (some p0)) (show xm_Imp g Γ 20 (xi_get 10 0 23) from xs_get hG hΓ (ci := 10) (kf := 0) rfl (Nat.le_of_ble_eq_true rfl) q1647 dX12_next_2_20) rfl e1 ?_
    obtain ⟨a4, ha4, e⟩ := e
    obtain ⟨_, e0, e⟩ := e
    obtain ⟨m5, m6, ⟨em1, em2⟩, e⟩ := e
    refine xw_tvr1 (o := v2) (show xm_Imp g Γ 23 (xi_vir g 2 M_X3_element 5 1 26) from xs_invV hG hΓ k_X3_element rfl (ci := 2) rfl q1445 q1227 q1228 dX12_next_2_23) (by simp [xm_stk, xv_cat, xc_int, xc_long, xc_float, xc_double, xc_ref]) ha4 e0 em1 em2 (K_X3_element hG a4 v3 _ _ _ e) (fun v8 h7 e => ?_)
    refine xw_asto (x := v8) (ls' := [some (.ref p0), some (va_rf v8)]) (show xm_Imp g Γ 26 (xi_ast 1 27) from xs_astore_n hΓ dX12_next_2_26 (Nat.le_of_ble_eq_true rfl)) rfl ?_
    refine xw_ald (show xm_Imp g Γ 27 (xi_ald 0 28) from xs_aload_n hΓ dX12_next_2_27) rfl ?_
    refine xw_dup (show xm_Imp g Γ 28 (xi_dup 29) from xs_dup hΓ dX12_next_2_28) rfl ?_
    obtain ⟨v9, e1, e⟩ := e
    refine xw_gi1 (o := (some p0)) (show xm_Imp g Γ 29 (xi_get 10 0 32) from xs_get hG hΓ (ci := 10) (kf := 0) rfl (Nat.le_of_ble_eq_true rfl) q1647 dX12_next_2_29) rfl e1 ?_
    refine xw_psh (v := (.int (1))) (show xm_Imp g Γ 32 (xi_psh (.int (1)) 33) from xs_iconst hΓ dX12_next_2_32 (by decide)) ?_
    refine xw_ii (show xm_Imp g Γ 33 (xi_ii (fun x y => x + y) 34) from xs_iadd hΓ dX12_next_2_33) ?_
    obtain ⟨h10, e1, e⟩ := e
    refine xw_pt1 (o := (some p0)) (show xm_Imp g Γ 34 (xi_put 10 0 (.int) 37) from xs_put hG hΓ (ci := 10) (kf := 0) rfl (Nat.le_of_ble_eq_true rfl) rfl (by decide +kernel) q1647 dX12_next_2_34) rfl (xf_int _) e1 ?_
    refine xw_aldo (x := v8) (show xm_Imp g Γ 37 (xi_ald 1 38) from xs_aload_n hΓ dX12_next_2_37) rfl ?_
    exact xw_areto (show xm_Imp g Γ 38 (xi_aret _) from xs_areturn hΓ rfl (Or.inl ⟨_, rfl⟩) dX12_next_2_38) ⟨_, rfl, e⟩
noncomputable def F_X12_next (g : xm_G) (p0 : Nat) (h : xm_H) (bc : Nat) (bs : Nat) (Q : Option Nat → xm_H → Prop) : Prop :=
 xt_b (xh_is 10 h p0) (fun _ =>
 xt_c bc bs (fun m1 m2 => F_X12_next_2 g p0 h m1 m2 (fun v4 h3 =>
 Q v4 h3)))
set_option maxHeartbeats 4000000 in
theorem K_X12_next {g : xm_G} (hG : xm_Gw g) (p0 : Nat) (h : xm_H) (bc : Nat) (bs : Nat) {Q : Option Nat → xm_H → Prop} (e : F_X12_next g p0 h bc bs Q) : xm_Run g M_X12_next 9 [.ref p0] h bc bs (fun v h' => ∃ r, v = some (va_rf r) ∧ Q r h') xm_no := by
  refine xm_Run.of pn_StringTableau_Tableau_1 (Nat.le_of_ble_eq_true rfl) (fun Γ hΓ => ?_)
  show xm_W g Γ 0 [some (.ref p0)] [] h bc bs
  unfold F_X12_next at e
  refine xw_ald (show xm_Imp g Γ 0 (xi_ald 0 1) from xs_aload_n hΓ dX12_next_0) rfl ?_
  obtain ⟨_, e0, e⟩ := e
  obtain ⟨m1, m2, ⟨em1, em2⟩, e⟩ := e
  refine xw_tvr0 (o := (some p0)) (show xm_Imp g Γ 1 (xi_vir g 10 M_X12_next_2 8 0 4) from xs_invV hG hΓ k_X12_next_2 rfl (ci := 10) rfl q1419 q1420 q1421 dX12_next_1) rfl rfl e0 em1 em2 (K_X12_next_2 hG p0 _ _ _ e) (fun v4 h3 e => ?_)
  exact xw_areto (show xm_Imp g Γ 4 (xi_aret _) from xs_areturn hΓ rfl (Or.inl ⟨_, rfl⟩) dX12_next_4) ⟨_, rfl, e⟩
noncomputable def F_J3_nonNullElementAt (g : xm_G) (p0 : Option Nat) (p1 : Int32) (h : xm_H) : Option (Option Nat) :=
 xo_b p0 (fun a1 =>
 xo_b (xh_ar "java/lang/Object" h a1 p1) (fun v2 =>
 (if v2 = none then
 none else
 some v2)))
set_option maxHeartbeats 4000000 in
theorem K_J3_nonNullElementAt {g : xm_G} (hG : xm_Gw g) (p0 : Option Nat) (p1 : Int32) (h : xm_H) {o : Option Nat} (e : F_J3_nonNullElementAt g p0 p1 h = some o) {Q : xm_P} {X : xm_X} (hQ : Q (some (va_rf o)) h) : xm_Run g M_J3_nonNullElementAt 8 [va_rf p0, .int p1] h 0 0 Q X := by
  refine xm_Run.of2 (ls := [some (va_rf p0), some (.int p1), none]) pn_java_util_ArrayDeque (by cases p0 <;> exact Nat.le_of_ble_eq_true rfl) (by cases p0 <;> rfl) (fun Γ hΓ => ?_)
  obtain ⟨P0, hP0, hp⟩ : ∃ P : Option Nat → Prop, (∀ o, P o → Q (some (va_rf o)) h) ∧ P o := ⟨fun o => Q (some (va_rf o)) h, fun _ h => h, hQ⟩
  clear hQ
  show xm_W g Γ 0 [some (va_rf p0), some (.int p1), none] [] h 0 0
  unfold F_J3_nonNullElementAt at e
  refine xw_aldo (x := p0) (show xm_Imp g Γ 0 (xi_ald 0 1) from xs_aload_n hΓ dJ3_nonNullElementAt_0) rfl ?_
  refine xw_ild (show xm_Imp g Γ 1 (xi_ild 1 2) from xs_iload_n hΓ dJ3_nonNullElementAt_1) rfl ?_
  obtain ⟨a1, ha1, e⟩ := xo_b_s e
  obtain ⟨v2, e1, e⟩ := xo_b_s e
  refine xw_haal (o := p0) (show xm_Imp g Γ 2 (xi_aal "java/lang/Object" 3) from xs_aal hG hΓ dJ3_nonNullElementAt_2) ha1 e1 ?_
  refine xw_asto (x := v2) (ls' := [some (va_rf p0), some (.int p1), some (va_rf v2)]) (show xm_Imp g Γ 3 (xi_ast 2 4) from xs_astore_n hΓ dJ3_nonNullElementAt_3 (Nat.le_of_ble_eq_true rfl)) rfl ?_
  refine xw_aldo (x := v2) (show xm_Imp g Γ 4 (xi_ald 2 5) from xs_aload_n hΓ dJ3_nonNullElementAt_4) rfl ?_
  refine xw_nul (o := v2) (show xm_Imp g Γ 5 (xi_nul 8 16) from xs_ifnonnull hΓ dJ3_nonNullElementAt_5 (by decide)) (fun c => ?_) (fun c => ?_)
  · rw [if_pos c] at e
    cases e
  · rw [if_neg c] at e
    refine xw_aldo (x := v2) (show xm_Imp g Γ 16 (xi_ald 2 17) from xs_aload_n hΓ dJ3_nonNullElementAt_16) rfl ?_
    have hq := hP0 _ (xl_fin e hp)
    exact xw_areto (show xm_Imp g Γ 17 (xi_aret _) from xs_areturn hΓ rfl (Or.inl ⟨_, rfl⟩) dJ3_nonNullElementAt_17) hq
def F_J3_inc (p0 : Int32) (p1 : Int32) : Int32 :=
 (if (p0 + 1) < p1 then
 p0 + 1 else
 0)
set_option maxHeartbeats 4000000 in
theorem K_J3_inc {g : xm_G} (hG : xm_Gw g) {h : xm_H} (p0 : Int32) (p1 : Int32) {o : Int32} (e : F_J3_inc p0 p1 = o) {Q : xm_P} {X : xm_X} (hQ : Q (some (.int o)) h) : xm_Run g M_J3_inc 1 [.int p0, .int p1] h 0 0 Q X := by
  refine xm_Run.of pn_java_util_ArrayDeque (Nat.le_of_ble_eq_true rfl) (fun Γ hΓ => ?_)
  obtain ⟨P0, hP0, hp⟩ : ∃ P : Int32 → Prop, (∀ o, P o → Q (some (.int o)) h) ∧ P o := ⟨fun o => Q (some (.int o)) h, fun _ h => h, hQ⟩
  clear hQ
  show xm_W g Γ 0 [some (.int p0), some (.int p1)] [] h 0 0
  unfold F_J3_inc at e
  refine xw_inc (v := (1)) (ls' := [some (.int (p0 + 1)), some (.int p1)]) (show xm_Imp g Γ 0 (xi_inc 0 (1) 3) from xs_iinc hΓ dJ3_inc_0 (by decide) (Nat.le_of_ble_eq_true rfl)) rfl rfl ?_
  refine xw_ild (show xm_Imp g Γ 3 (xi_ild 0 4) from xs_iload_n hΓ dJ3_inc_3) rfl ?_
  refine xw_ild (show xm_Imp g Γ 4 (xi_ild 1 5) from xs_iload_n hΓ dJ3_inc_4) rfl ?_
  refine xw_ic (show xm_Imp g Γ 5 (xi_ic (fun x y => x < y) 10 8) from xs_icmp_lt hΓ dJ3_inc_5 (by decide)) (fun c => ?_) (fun c => ?_)
  · rw [if_pos c] at e
    refine xw_ild (show xm_Imp g Γ 10 (xi_ild 0 11) from xs_iload_n hΓ dJ3_inc_10) rfl ?_
    exact xw_iret (show xm_Imp g Γ 11 (xi_iret .int _) from xs_ireturn hΓ rfl dJ3_inc_11) (xn_int _) (hP0 _ (xl_finV e hp))
  · rw [if_neg c] at e
    refine xw_psh (v := (.int (0))) (show xm_Imp g Γ 8 (xi_psh (.int (0)) 9) from xs_iconst hΓ dJ3_inc_8 (by decide)) ?_
    refine xw_ist (ls' := [some (.int 0), some (.int p1)]) (show xm_Imp g Γ 9 (xi_ist 0 10) from xs_istore_n hΓ dJ3_inc_9 (Nat.le_of_ble_eq_true rfl)) rfl ?_
    refine xw_ild (show xm_Imp g Γ 10 (xi_ild 0 11) from xs_iload_n hΓ dJ3_inc_10) rfl ?_
    exact xw_iret (show xm_Imp g Γ 11 (xi_iret .int _) from xs_ireturn hΓ rfl dJ3_inc_11) (xn_int _) (hP0 _ (xl_finV e hp))
noncomputable def F_J23_next (g : xm_G) (p0 : Nat) (h : xm_H) : Option (Option Nat × xm_H) :=
 xo_b (xh_fi [(16, 1)] h p0) (fun v1 =>
 (if 0 < v1 then
 xo_b (xh_fr [(16, 3)] h p0) (fun v2 =>
 xo_b v2 (fun a3 =>
 xo_b (xh_fr [(13, 0)] h a3) (fun v4 =>
 xo_b (xh_fi [(16, 0)] h p0) (fun v5 =>
 xo_b (F_J3_nonNullElementAt g v4 v5 h) (fun v6 =>
 xo_b (xh_fi [(16, 0)] h p0) (fun v7 =>
 xo_b (xh_w [(16, 2)] h p0 (.int v7)) (fun h8 =>
 xo_b v4 (fun a9 =>
 xo_b (xh_len h8 a9) (fun v10 =>
 xo_b (xh_w [(16, 0)] h8 p0 (.int (F_J3_inc v7 v10))) (fun h11 =>
 xo_b (xh_fi [(16, 1)] h11 p0) (fun v12 =>
 xo_b (xh_w [(16, 1)] h11 p0 (.int (v12 - 1))) (fun h13 =>
 some (v6, h13))))))))))))) else
 none))
set_option maxHeartbeats 4000000 in
theorem K_J23_next {g : xm_G} (hG : xm_Gw g) (p0 : Nat) (h : xm_H) {o : Option Nat × xm_H} (e : F_J23_next g p0 h = some o) {Q : xm_P} {X : xm_X} (hQ : Q (some (va_rf o.1)) o.2) : xm_Run g M_J23_next 9 [.ref p0] h 0 0 Q X := by
  refine xm_Run.of pn_java_util_ArrayDeque_DeqIterator (Nat.le_of_ble_eq_true rfl) (fun Γ hΓ => ?_)
  obtain ⟨P0, hP0, hp⟩ : ∃ P : Option Nat × xm_H → Prop, (∀ o, P o → Q (some (va_rf o.1)) o.2) ∧ P o := ⟨fun o => Q (some (va_rf o.1)) o.2, fun _ h => h, hQ⟩
  clear hQ
  show xm_W g Γ 0 [some (.ref p0), none, none] [] h 0 0
  unfold F_J23_next at e
  refine xw_ald (show xm_Imp g Γ 0 (xi_ald 0 1) from xs_aload_n hΓ dJ23_next_0) rfl ?_
  obtain ⟨v1, e1, e⟩ := xo_b_s e
  refine xw_gi1 (o := (some p0)) (show xm_Imp g Γ 1 (xi_get 16 1 4) from xs_get hG hΓ (ci := 16) (kf := 1) rfl (Nat.le_of_ble_eq_true rfl) q1382 dJ23_next_1) rfl e1 ?_
  refine xw_if (show xm_Imp g Γ 4 (xi_if (fun x => 0 < x) 15 7) from xs_if_gt hΓ dJ23_next_4 (by decide)) (fun c => ?_) (fun c => ?_)
  · rw [if_pos c] at e
    refine xw_ald (show xm_Imp g Γ 15 (xi_ald 0 16) from xs_aload_n hΓ dJ23_next_15) rfl ?_
    obtain ⟨v2, e1, e⟩ := xo_b_s e
    refine xw_gr1 (o := (some p0)) (show xm_Imp g Γ 16 (xi_get 16 3 19) from xs_get hG hΓ (ci := 16) (kf := 3) rfl (Nat.le_of_ble_eq_true rfl) q1384 dJ23_next_16) rfl e1 ?_
    obtain ⟨a3, ha3, e⟩ := xo_b_s e
    obtain ⟨v4, e1, e⟩ := xo_b_s e
    refine xw_gr1 (o := v2) (show xm_Imp g Γ 19 (xi_get 13 0 22) from xs_get hG hΓ (ci := 13) (kf := 0) rfl (Nat.le_of_ble_eq_true rfl) q222 dJ23_next_19) ha3 e1 ?_
    refine xw_asto (x := v4) (ls' := [some (.ref p0), some (va_rf v4), none]) (show xm_Imp g Γ 22 (xi_ast 1 23) from xs_astore_n hΓ dJ23_next_22 (Nat.le_of_ble_eq_true rfl)) rfl ?_
    refine xw_aldo (x := v4) (show xm_Imp g Γ 23 (xi_ald 1 24) from xs_aload_n hΓ dJ23_next_23) rfl ?_
    refine xw_ald (show xm_Imp g Γ 24 (xi_ald 0 25) from xs_aload_n hΓ dJ23_next_24) rfl ?_
    obtain ⟨v5, e1, e⟩ := xo_b_s e
    refine xw_gi1 (o := (some p0)) (show xm_Imp g Γ 25 (xi_get 16 0 28) from xs_get hG hΓ (ci := 16) (kf := 0) rfl (Nat.le_of_ble_eq_true rfl) q1381 dJ23_next_25) rfl e1 ?_
    obtain ⟨v6, e1, e⟩ := xo_b_s e
    refine xw_sv2 (show xm_Imp g Γ 28 (xi_inv g M_J3_nonNullElementAt 8 2 31) from xs_invS hG hΓ k_J3_nonNullElementAt rfl q1451 q1452 dJ23_next_28) rfl (fun Q X hQ => K_J3_nonNullElementAt hG v4 v5 _ e1 hQ) ?_
    refine xw_asto (x := v6) (ls' := [some (.ref p0), some (va_rf v4), some (va_rf v6)]) (show xm_Imp g Γ 31 (xi_ast 2 32) from xs_astore_n hΓ dJ23_next_31 (Nat.le_of_ble_eq_true rfl)) ((xm_s1_o (o := v4) rfl).trans rfl) ?_
    refine xw_ald (show xm_Imp g Γ 32 (xi_ald 0 33) from xs_aload_n hΓ dJ23_next_32) rfl ?_
    refine xw_ald (show xm_Imp g Γ 33 (xi_ald 0 34) from xs_aload_n hΓ dJ23_next_33) rfl ?_
    refine xw_ald (show xm_Imp g Γ 34 (xi_ald 0 35) from xs_aload_n hΓ dJ23_next_34) rfl ?_
    obtain ⟨v7, e1, e⟩ := xo_b_s e
    refine xw_gi1 (o := (some p0)) (show xm_Imp g Γ 35 (xi_get 16 0 38) from xs_get hG hΓ (ci := 16) (kf := 0) rfl (Nat.le_of_ble_eq_true rfl) q1381 dJ23_next_35) rfl e1 ?_
    refine xw_dup_x1 (show xm_Imp g Γ 38 (xi_dup_x1 39) from xs_dup_x1 hΓ dJ23_next_38) ⟨rfl, rfl⟩ ?_
    obtain ⟨h8, e1, e⟩ := xo_b_s e
    refine xw_pt1 (o := (some p0)) (show xm_Imp g Γ 39 (xi_put 16 2 (.int) 42) from xs_put hG hΓ (ci := 16) (kf := 2) rfl (Nat.le_of_ble_eq_true rfl) rfl (by decide +kernel) q1383 dJ23_next_39) rfl (xf_int _) e1 ?_
    refine xw_aldo (x := v4) (show xm_Imp g Γ 42 (xi_ald 1 43) from xs_aload_n hΓ dJ23_next_42) rfl ?_
    obtain ⟨a9, ha9, e⟩ := xo_b_s e
    obtain ⟨v10, e1, e⟩ := xo_b_s e
    refine xw_hlen (o := v4) (show xm_Imp g Γ 43 (xi_len 44) from xs_len hG hΓ dJ23_next_43) ha9 e1 ?_
    refine xw_sv2 (show xm_Imp g Γ 44 (xi_inv g M_J3_inc 1 2 47) from xs_invS hG hΓ k_J3_inc rfl q1454 q1259 dJ23_next_44) rfl (fun Q X hQ => K_J3_inc hG v7 v10 rfl hQ) ?_
    obtain ⟨h11, e1, e⟩ := xo_b_s e
    refine xw_pt1 (o := (some p0)) (show xm_Imp g Γ 47 (xi_put 16 0 (.int) 50) from xs_put hG hΓ (ci := 16) (kf := 0) rfl (Nat.le_of_ble_eq_true rfl) rfl (by decide +kernel) q1381 dJ23_next_47) rfl (xf_int _) e1 ?_
    refine xw_ald (show xm_Imp g Γ 50 (xi_ald 0 51) from xs_aload_n hΓ dJ23_next_50) rfl ?_
    refine xw_dup (show xm_Imp g Γ 51 (xi_dup 52) from xs_dup hΓ dJ23_next_51) rfl ?_
    obtain ⟨v12, e1, e⟩ := xo_b_s e
    refine xw_gi1 (o := (some p0)) (show xm_Imp g Γ 52 (xi_get 16 1 55) from xs_get hG hΓ (ci := 16) (kf := 1) rfl (Nat.le_of_ble_eq_true rfl) q1382 dJ23_next_52) rfl e1 ?_
    refine xw_psh (v := (.int (1))) (show xm_Imp g Γ 55 (xi_psh (.int (1)) 56) from xs_iconst hΓ dJ23_next_55 (by decide)) ?_
    refine xw_ii (show xm_Imp g Γ 56 (xi_ii (fun x y => x - y) 57) from xs_isub hΓ dJ23_next_56) ?_
    obtain ⟨h13, e1, e⟩ := xo_b_s e
    refine xw_pt1 (o := (some p0)) (show xm_Imp g Γ 57 (xi_put 16 1 (.int) 60) from xs_put hG hΓ (ci := 16) (kf := 1) rfl (Nat.le_of_ble_eq_true rfl) rfl (by decide +kernel) q1382 dJ23_next_57) rfl (xf_int _) e1 ?_
    refine xw_aldo (x := v6) (show xm_Imp g Γ 60 (xi_ald 2 61) from xs_aload_n hΓ dJ23_next_60) rfl ?_
    have hq := hP0 _ (xl_fin e hp)
    exact xw_areto (show xm_Imp g Γ 61 (xi_aret _) from xs_areturn hΓ rfl (Or.inl ⟨_, rfl⟩) dJ23_next_61) hq
  · rw [if_neg c] at e
    cases e
noncomputable def F_J3_newCapacity (g : xm_G) (p0 : Nat) (p1 : Int32) (p2 : Int32) (h : xm_H) : Option (Int32) :=
 xo_b (xh_fr [(13, 0)] h p0) (fun v1 =>
 xo_b v1 (fun a2 =>
 xo_b (xh_len h a2) (fun v3 =>
 (if ((v3 + p1) - 2147483639) ≤ 0 then
 (if p1 ≤ p2 then
 (if 0 ≤ ((v3 + p2) - 2147483639) then
 some 2147483639 else
 some (v3 + p2)) else
 some (v3 + p1)) else
 (if 0 ≤ (v3 + p1) then
 some 2147483647 else
 none)))))
set_option maxHeartbeats 4000000 in
theorem K_J3_newCapacity {g : xm_G} (hG : xm_Gw g) (p0 : Nat) (p1 : Int32) (p2 : Int32) (h : xm_H) {o : Int32} (e : F_J3_newCapacity g p0 p1 p2 h = some o) {Q : xm_P} {X : xm_X} (hQ : Q (some (.int o)) h) : xm_Run g M_J3_newCapacity 8 [.ref p0, .int p1, .int p2] h 0 0 Q X := by
  refine xm_Run.of pn_java_util_ArrayDeque (Nat.le_of_ble_eq_true rfl) (fun Γ hΓ => ?_)
  obtain ⟨P0, hP0, hp⟩ : ∃ P : Int32 → Prop, (∀ o, P o → Q (some (.int o)) h) ∧ P o := ⟨fun o => Q (some (.int o)) h, fun _ h => h, hQ⟩
  clear hQ
  show xm_W g Γ 0 [some (.ref p0), some (.int p1), some (.int p2), none, none] [] h 0 0
  unfold F_J3_newCapacity at e
  refine xw_ald (show xm_Imp g Γ 0 (xi_ald 0 1) from xs_aload_n hΓ dJ3_newCapacity_0) rfl ?_
  obtain ⟨v1, e1, e⟩ := xo_b_s e
  refine xw_gr1 (o := (some p0)) (show xm_Imp g Γ 1 (xi_get 13 0 4) from xs_get hG hΓ (ci := 13) (kf := 0) rfl (Nat.le_of_ble_eq_true rfl) q221 dJ3_newCapacity_1) rfl e1 ?_
  obtain ⟨a2, ha2, e⟩ := xo_b_s e
  obtain ⟨v3, e1, e⟩ := xo_b_s e
  refine xw_hlen (o := v1) (show xm_Imp g Γ 4 (xi_len 5) from xs_len hG hΓ dJ3_newCapacity_4) ha2 e1 ?_
  refine xw_ist (ls' := [some (.ref p0), some (.int p1), some (.int p2), some (.int v3), none]) (show xm_Imp g Γ 5 (xi_ist 3 6) from xs_istore_n hΓ dJ3_newCapacity_5 (Nat.le_of_ble_eq_true rfl)) rfl ?_
  refine xw_ild (show xm_Imp g Γ 6 (xi_ild 3 7) from xs_iload_n hΓ dJ3_newCapacity_6) rfl ?_
  refine xw_ild (show xm_Imp g Γ 7 (xi_ild 1 8) from xs_iload_n hΓ dJ3_newCapacity_7) rfl ?_
  refine xw_ii (show xm_Imp g Γ 8 (xi_ii (fun x y => x + y) 9) from xs_iadd hΓ dJ3_newCapacity_8) ?_
  refine xw_dup (show xm_Imp g Γ 9 (xi_dup 10) from xs_dup hΓ dJ3_newCapacity_9) rfl ?_
  refine xw_ist (ls' := [some (.ref p0), some (.int p1), some (.int p2), some (.int v3), some (.int (v3 + p1))]) (show xm_Imp g Γ 10 (xi_ist 4 12) from xs_istore hΓ dJ3_newCapacity_10 (Nat.le_of_ble_eq_true rfl)) rfl ?_
  refine xw_psh (v := (.int (2147483639))) (show xm_Imp g Γ 12 (xi_psh (.int (2147483639)) 14) from xs_ldc hG hΓ q1269 dJ3_newCapacity_12) ?_
  refine xw_ii (show xm_Imp g Γ 14 (xi_ii (fun x y => x - y) 15) from xs_isub hΓ dJ3_newCapacity_14) ?_
  refine xw_if (show xm_Imp g Γ 15 (xi_if (fun x => x ≤ 0) 36 18) from xs_if_le hΓ dJ3_newCapacity_15 (by decide)) (fun c => ?_) (fun c => ?_)
  · rw [if_pos c] at e
    refine xw_ild (show xm_Imp g Γ 36 (xi_ild 1 37) from xs_iload_n hΓ dJ3_newCapacity_36) rfl ?_
    refine xw_ild (show xm_Imp g Γ 37 (xi_ild 2 38) from xs_iload_n hΓ dJ3_newCapacity_37) rfl ?_
    refine xw_ic (show xm_Imp g Γ 38 (xi_ic (fun x y => x ≤ y) 44 41) from xs_icmp_le hΓ dJ3_newCapacity_38 (by decide)) (fun c => ?_) (fun c => ?_)
    · rw [if_pos c] at e
      refine xw_ild (show xm_Imp g Γ 44 (xi_ild 3 45) from xs_iload_n hΓ dJ3_newCapacity_44) rfl ?_
      refine xw_ild (show xm_Imp g Γ 45 (xi_ild 2 46) from xs_iload_n hΓ dJ3_newCapacity_45) rfl ?_
      refine xw_ii (show xm_Imp g Γ 46 (xi_ii (fun x y => x + y) 47) from xs_iadd hΓ dJ3_newCapacity_46) ?_
      refine xw_psh (v := (.int (2147483639))) (show xm_Imp g Γ 47 (xi_psh (.int (2147483639)) 49) from xs_ldc hG hΓ q1269 dJ3_newCapacity_47) ?_
      refine xw_ii (show xm_Imp g Γ 49 (xi_ii (fun x y => x - y) 50) from xs_isub hΓ dJ3_newCapacity_49) ?_
      refine xw_if (show xm_Imp g Γ 50 (xi_if (fun x => 0 ≤ x) 59 53) from xs_if_ge hΓ dJ3_newCapacity_50 (by decide)) (fun c => ?_) (fun c => ?_)
      · rw [if_pos c] at e
        refine xw_psh (v := (.int (2147483639))) (show xm_Imp g Γ 59 (xi_psh (.int (2147483639)) 61) from xs_ldc hG hΓ q1269 dJ3_newCapacity_59) ?_
        have hq := hP0 _ (xl_fin e hp)
        exact xw_iret (show xm_Imp g Γ 61 (xi_iret .int _) from xs_ireturn hΓ rfl dJ3_newCapacity_61) (xn_int _) hq
      · rw [if_neg c] at e
        refine xw_ild (show xm_Imp g Γ 53 (xi_ild 3 54) from xs_iload_n hΓ dJ3_newCapacity_53) rfl ?_
        refine xw_ild (show xm_Imp g Γ 54 (xi_ild 2 55) from xs_iload_n hΓ dJ3_newCapacity_54) rfl ?_
        refine xw_ii (show xm_Imp g Γ 55 (xi_ii (fun x y => x + y) 56) from xs_iadd hΓ dJ3_newCapacity_55) ?_
        refine xw_goto (show xm_Imp g Γ 56 (xi_goto 61) from xs_goto hΓ dJ3_newCapacity_56 (by decide)) ?_
        have hq := hP0 _ (xl_fin e hp)
        exact xw_iret (show xm_Imp g Γ 61 (xi_iret .int _) from xs_ireturn hΓ rfl dJ3_newCapacity_61) (xn_int _) hq
    · rw [if_neg c] at e
      refine xw_ild (show xm_Imp g Γ 41 (xi_ild 4 43) from xs_iload hΓ dJ3_newCapacity_41) rfl ?_
      have hq := hP0 _ (xl_fin e hp)
      exact xw_iret (show xm_Imp g Γ 43 (xi_iret .int _) from xs_ireturn hΓ rfl dJ3_newCapacity_43) (xn_int _) hq
  · rw [if_neg c] at e
    refine xw_ild (show xm_Imp g Γ 18 (xi_ild 4 20) from xs_iload hΓ dJ3_newCapacity_18) rfl ?_
    refine xw_if (show xm_Imp g Γ 20 (xi_if (fun x => 0 ≤ x) 33 23) from xs_if_ge hΓ dJ3_newCapacity_20 (by decide)) (fun c => ?_) (fun c => ?_)
    · rw [if_pos c] at e
      refine xw_psh (v := (.int (2147483647))) (show xm_Imp g Γ 33 (xi_psh (.int (2147483647)) 35) from xs_ldc hG hΓ q1290 dJ3_newCapacity_33) ?_
      have hq := hP0 _ (xl_fin e hp)
      exact xw_iret (show xm_Imp g Γ 35 (xi_iret .int _) from xs_ireturn hΓ rfl dJ3_newCapacity_35) (xn_int _) hq
    · rw [if_neg c] at e
      cases e
noncomputable def D_J3_grow_145 (g : xm_G) (l5 : Option Nat) (l8 : Int32) (Q : xm_H → Prop) (k145 : Int32 × xm_H × Nat × Nat → Prop) (s : Int32 × xm_H × Nat × Nat) : Prop :=
 (if l8 ≤ s.1 then
 Q s.2.1 else
 xt_b l5 (fun a21 =>
 xt_b (xh_sr "java/lang/Object" s.2.1 a21 s.1 none) (fun h22 =>
 k145 ((s.1 + 1), h22, s.2.2.1, s.2.2.2))))
noncomputable def L_J3_grow_145 (g : xm_G) (l5 : Option Nat) (l8 : Int32) (Q : xm_H → Prop) (s : Int32 × xm_H × Nat × Nat) : Prop := xt_loop (D_J3_grow_145 g l5 l8 Q) s
noncomputable def B_J3_grow_96 (g : xm_G) (l0 : Nat) (l2 : Int32) (l3 : Int32) (l5 : Option Nat) (h : xm_H) (bc : Nat) (bs : Nat) (Q : xm_H → Prop) : Prop :=
 xt_b (xh_fi [(13, 1)] h l0) (fun v13 =>
 xt_b (xh_fi [(13, 1)] h l0) (fun v14 =>
 xt_b (xh_fi [(13, 1)] h l0) (fun v15 =>
 xt_b l5 (fun a16 =>
 xt_b (xh_cpq "java/lang/Object" h a16 v13 a16 (v14 + (l3 - l2)) (l2 - v15)) (fun h17 =>
 xt_b (xh_fi [(13, 1)] h17 l0) (fun v18 =>
 xt_b (xh_fi [(13, 1)] h17 l0) (fun v19 =>
 xt_b (xh_w [(13, 1)] h17 l0 (.int (v19 + (l3 - l2)))) (fun h20 =>
 L_J3_grow_145 g l5 (v19 + (l3 - l2)) Q (v18, h20, bc, bs)))))))))
noncomputable def B_J3_grow_49 (g : xm_G) (l0 : Nat) (l2 : Int32) (l3 : Int32) (h : xm_H) (bc : Nat) (bs : Nat) (Q : xm_H → Prop) : Prop :=
 xt_b (xh_fr [(13, 0)] h l0) (fun v5 =>
 xt_c bc bs (fun m6 m7 => F_J10_copyOf_2 g v5 l3 h m6 m7 (fun v9 h8 =>
 xt_b (xh_w [(13, 0)] h8 l0 (va_rf v9)) (fun h10 =>
 xt_b (xh_fi [(13, 2)] h10 l0) (fun v11 =>
 xt_b (xh_fi [(13, 1)] h10 l0) (fun v12 =>
 (if v11 < v12 then
 B_J3_grow_96 g l0 l2 l3 v9 h10 (bc - m6) (bs - m7) Q else
 xt_b (xh_fi [(13, 2)] h10 l0) (fun v23 =>
 xt_b (xh_fi [(13, 1)] h10 l0) (fun v24 =>
 (if v23 = v24 then
 xt_b (xh_fi [(13, 1)] h10 l0) (fun v25 =>
 xt_b v9 (fun a26 =>
 xt_b (xh_ar "java/lang/Object" h10 a26 v25) (fun v27 =>
 (if v27 = none then
 Q h10 else
 B_J3_grow_96 g l0 l2 l3 v9 h10 (bc - m6) (bs - m7) Q)))) else
 Q h10))))))))))
noncomputable def B_J3_grow_41 (g : xm_G) (l0 : Nat) (l1 : Int32) (l2 : Int32) (l4 : Int32) (h : xm_H) (bc : Nat) (bs : Nat) (Q : xm_H → Prop) : Prop :=
 xt_b (xh_is 13 h l0) (fun _ =>
 xt_b (F_J3_newCapacity g l0 l1 l4 h) (fun v4 =>
 B_J3_grow_49 g l0 l2 v4 h bc bs Q))
noncomputable def B_J3_grow_21 (g : xm_G) (l0 : Nat) (l1 : Int32) (l2 : Int32) (s0 : Int32) (h : xm_H) (bc : Nat) (bs : Nat) (Q : xm_H → Prop) : Prop :=
 (if s0 < l1 then
 B_J3_grow_41 g l0 l1 l2 s0 h bc bs Q else
 (if ((l2 + s0) - 2147483639) ≤ 0 then
 B_J3_grow_49 g l0 l2 (l2 + s0) h bc bs Q else
 B_J3_grow_41 g l0 l1 l2 s0 h bc bs Q))
noncomputable def F_J3_grow (g : xm_G) (p0 : Nat) (p1 : Int32) (h : xm_H) (bc : Nat) (bs : Nat) (Q : xm_H → Prop) : Prop :=
 xt_b (xh_fr [(13, 0)] h p0) (fun v1 =>
 xt_b v1 (fun a2 =>
 xt_b (xh_len h a2) (fun v3 =>
 B_J3_grow_21 g p0 p1 v3 (if (64 : Int32) ≤ v3 then v3 >>> (1 &&& 31) else v3 + 2) h bc bs Q)))
set_option maxHeartbeats 4000000 in
theorem K_J3_grow {g : xm_G} (hG : xm_Gw g) (p0 : Nat) (p1 : Int32) (h : xm_H) (bc : Nat) (bs : Nat) {Q : xm_H → Prop} (e : F_J3_grow g p0 p1 h bc bs Q) : xm_Run g M_J3_grow 9 [.ref p0, .int p1] h bc bs (fun v h' => v = none ∧ Q h') xm_no := by
  refine xm_Run.of pn_java_util_ArrayDeque (Nat.le_of_ble_eq_true rfl) (fun Γ hΓ => ?_)
  show xm_W g Γ 0 [some (.ref p0), some (.int p1), none, none, none, none, none, none, none] [] h bc bs
  have hL_145 : ∀ (l5 : Option Nat) (l8 : Int32) (s : Int32 × xm_H × Nat × Nat), L_J3_grow_145 g l5 l8 Q s → xm_W g Γ 145 [none, none, none, none, none, some (va_rf l5), none, some (.int s.1), some (.int l8)] [] s.2.1 s.2.2.1 s.2.2.2 := by
    intro l5 l8
    refine xt_rule (WS := fun s : Int32 × xm_H × Nat × Nat => xm_W g Γ 145 [none, none, none, none, none, some (va_rf l5), none, some (.int s.1), some (.int l8)] [] s.2.1 s.2.2.1 s.2.2.2) ?_
    intro k145 hk145 s e
    unfold D_J3_grow_145 at e
    refine xw_ild (show xm_Imp g Γ 145 (xi_ild 7 147) from xs_iload hΓ dJ3_grow_145) rfl ?_
    refine xw_ild (show xm_Imp g Γ 147 (xi_ild 8 149) from xs_iload hΓ dJ3_grow_147) rfl ?_
    refine xw_ic (show xm_Imp g Γ 149 (xi_ic (fun x y => y ≤ x) 164 152) from xs_icmp_ge hΓ dJ3_grow_149 (by decide)) (fun c => ?_) (fun c => ?_)
    · rw [if_pos c] at e
      exact xw_vret (show xm_Imp g Γ 164 (xi_vret _) from xs_return hΓ rfl dJ3_grow_164) ⟨rfl, e⟩
    · rw [if_neg c] at e
      refine xw_aldo (x := l5) (show xm_Imp g Γ 152 (xi_ald 5 154) from xs_aload hΓ dJ3_grow_152) rfl ?_
      refine xw_ild (show xm_Imp g Γ 154 (xi_ild 7 156) from xs_iload hΓ dJ3_grow_154) rfl ?_
      refine xw_psh (v := .null) (show xm_Imp g Γ 156 (xi_psh .null 157) from xs_null hΓ dJ3_grow_156) ?_
      obtain ⟨a21, ha21, e⟩ := e
      obtain ⟨h22, e1, e⟩ := e
      refine xw_haas (o := l5) (v := none) (show xm_Imp g Γ 157 (xi_aas "java/lang/Object" 158) from xs_aas hG hΓ dJ3_grow_157) ha21 e1 ?_
      refine xw_inc (v := (1)) (ls' := [none, none, none, none, none, some (va_rf l5), none, some (.int (s.1 + 1)), some (.int l8)]) (show xm_Imp g Γ 158 (xi_inc 7 (1) 161) from xs_iinc hΓ dJ3_grow_158 (by decide) (Nat.le_of_ble_eq_true rfl)) rfl rfl ?_
      refine xw_goto (show xm_Imp g Γ 161 (xi_goto 145) from xs_goto hΓ dJ3_grow_161 (by decide)) ?_
      have hq := hk145 _ e; exact hq
  have hB_96 : ∀ (l0 : Nat) (l2 : Int32) (l3 : Int32) (l5 : Option Nat) (h : xm_H) (bc : Nat) (bs : Nat), B_J3_grow_96 g l0 l2 l3 l5 h bc bs Q → xm_W g Γ 96 [some (.ref l0), none, some (.int l2), some (.int l3), none, some (va_rf l5), none, none, none] [] h bc bs := by
    intro l0 l2 l3 l5 h bc bs e
    unfold B_J3_grow_96 at e
    refine xw_ild (show xm_Imp g Γ 96 (xi_ild 3 97) from xs_iload_n hΓ dJ3_grow_96) rfl ?_
    refine xw_ild (show xm_Imp g Γ 97 (xi_ild 2 98) from xs_iload_n hΓ dJ3_grow_97) rfl ?_
    refine xw_ii (show xm_Imp g Γ 98 (xi_ii (fun x y => x - y) 99) from xs_isub hΓ dJ3_grow_98) ?_
    refine xw_ist (ls' := [some (.ref l0), none, some (.int l2), some (.int l3), none, some (va_rf l5), some (.int (l3 - l2)), none, none]) (show xm_Imp g Γ 99 (xi_ist 6 101) from xs_istore hΓ dJ3_grow_99 (Nat.le_of_ble_eq_true rfl)) ((xm_s1_o (o := l5) rfl).trans rfl) ?_
    refine xw_aldo (x := l5) (show xm_Imp g Γ 101 (xi_ald 5 103) from xs_aload hΓ dJ3_grow_101) rfl ?_
    refine xw_ald (show xm_Imp g Γ 103 (xi_ald 0 104) from xs_aload_n hΓ dJ3_grow_103) rfl ?_
    obtain ⟨v13, e1, e⟩ := e
    refine xw_gi1 (o := (some l0)) (show xm_Imp g Γ 104 (xi_get 13 1 107) from xs_get hG hΓ (ci := 13) (kf := 1) rfl (Nat.le_of_ble_eq_true rfl) q224 dJ3_grow_104) rfl e1 ?_
    refine xw_aldo (x := l5) (show xm_Imp g Γ 107 (xi_ald 5 109) from xs_aload hΓ dJ3_grow_107) rfl ?_
    refine xw_ald (show xm_Imp g Γ 109 (xi_ald 0 110) from xs_aload_n hΓ dJ3_grow_109) rfl ?_
    obtain ⟨v14, e1, e⟩ := e
    refine xw_gi1 (o := (some l0)) (show xm_Imp g Γ 110 (xi_get 13 1 113) from xs_get hG hΓ (ci := 13) (kf := 1) rfl (Nat.le_of_ble_eq_true rfl) q224 dJ3_grow_110) rfl e1 ?_
    refine xw_ild (show xm_Imp g Γ 113 (xi_ild 6 115) from xs_iload hΓ dJ3_grow_113) rfl ?_
    refine xw_ii (show xm_Imp g Γ 115 (xi_ii (fun x y => x + y) 116) from xs_iadd hΓ dJ3_grow_115) ?_
    refine xw_ild (show xm_Imp g Γ 116 (xi_ild 2 117) from xs_iload_n hΓ dJ3_grow_116) rfl ?_
    refine xw_ald (show xm_Imp g Γ 117 (xi_ald 0 118) from xs_aload_n hΓ dJ3_grow_117) rfl ?_
    obtain ⟨v15, e1, e⟩ := e
    refine xw_gi1 (o := (some l0)) (show xm_Imp g Γ 118 (xi_get 13 1 121) from xs_get hG hΓ (ci := 13) (kf := 1) rfl (Nat.le_of_ble_eq_true rfl) q224 dJ3_grow_118) rfl e1 ?_
    refine xw_ii (show xm_Imp g Γ 121 (xi_ii (fun x y => x - y) 122) from xs_isub hΓ dJ3_grow_121) ?_
    obtain ⟨a16, ha16, e⟩ := e
    obtain ⟨h17, e1, e⟩ := e
    refine xw_cpq (o := l5) (o1 := l5) (show xm_Imp g Γ 122 (xi_cpq "java/lang/Object" 125) from xs_cpq hG hΓ rfl q1292 dJ3_grow_122) ha16 ha16 rfl e1 ?_
    refine xw_ald (show xm_Imp g Γ 125 (xi_ald 0 126) from xs_aload_n hΓ dJ3_grow_125) rfl ?_
    obtain ⟨v18, e1, e⟩ := e
    refine xw_gi1 (o := (some l0)) (show xm_Imp g Γ 126 (xi_get 13 1 129) from xs_get hG hΓ (ci := 13) (kf := 1) rfl (Nat.le_of_ble_eq_true rfl) q224 dJ3_grow_126) rfl e1 ?_
    refine xw_ist (ls' := [some (.ref l0), none, some (.int l2), some (.int l3), none, some (va_rf l5), some (.int (l3 - l2)), some (.int v18), none]) (show xm_Imp g Γ 129 (xi_ist 7 131) from xs_istore hΓ dJ3_grow_129 (Nat.le_of_ble_eq_true rfl)) rfl ?_
    refine xw_ald (show xm_Imp g Γ 131 (xi_ald 0 132) from xs_aload_n hΓ dJ3_grow_131) rfl ?_
    refine xw_dup (show xm_Imp g Γ 132 (xi_dup 133) from xs_dup hΓ dJ3_grow_132) rfl ?_
    obtain ⟨v19, e1, e⟩ := e
    refine xw_gi1 (o := (some l0)) (show xm_Imp g Γ 133 (xi_get 13 1 136) from xs_get hG hΓ (ci := 13) (kf := 1) rfl (Nat.le_of_ble_eq_true rfl) q224 dJ3_grow_133) rfl e1 ?_
    refine xw_ild (show xm_Imp g Γ 136 (xi_ild 6 138) from xs_iload hΓ dJ3_grow_136) rfl ?_
    refine xw_ii (show xm_Imp g Γ 138 (xi_ii (fun x y => x + y) 139) from xs_iadd hΓ dJ3_grow_138) ?_
    refine xw_dup_x1 (show xm_Imp g Γ 139 (xi_dup_x1 140) from xs_dup_x1 hΓ dJ3_grow_139) ⟨rfl, rfl⟩ ?_
    obtain ⟨h20, e1, e⟩ := e
    refine xw_pt1 (o := (some l0)) (show xm_Imp g Γ 140 (xi_put 13 1 (.int) 143) from xs_put hG hΓ (ci := 13) (kf := 1) rfl (Nat.le_of_ble_eq_true rfl) rfl (by decide +kernel) q224 dJ3_grow_140) rfl (xf_int _) e1 ?_
    refine xw_ist (ls' := [some (.ref l0), none, some (.int l2), some (.int l3), none, some (va_rf l5), some (.int (l3 - l2)), some (.int v18), some (.int (v19 + (l3 - l2)))]) (show xm_Imp g Γ 143 (xi_ist 8 145) from xs_istore hΓ dJ3_grow_143 (Nat.le_of_ble_eq_true rfl)) rfl ?_
    exact xm_lx (hL_145 _ _ _ e) (And.intro rfl (And.intro rfl (And.intro rfl (trivial))))
  have hB_49 : ∀ (l0 : Nat) (l2 : Int32) (l3 : Int32) (h : xm_H) (bc : Nat) (bs : Nat), B_J3_grow_49 g l0 l2 l3 h bc bs Q → xm_W g Γ 49 [some (.ref l0), none, some (.int l2), some (.int l3), none, none, none, none, none] [] h bc bs := by
    intro l0 l2 l3 h bc bs e
    unfold B_J3_grow_49 at e
    refine xw_ald (show xm_Imp g Γ 49 (xi_ald 0 50) from xs_aload_n hΓ dJ3_grow_49) rfl ?_
    refine xw_ald (show xm_Imp g Γ 50 (xi_ald 0 51) from xs_aload_n hΓ dJ3_grow_50) rfl ?_
    obtain ⟨v5, e1, e⟩ := e
    refine xw_gr1 (o := (some l0)) (show xm_Imp g Γ 51 (xi_get 13 0 54) from xs_get hG hΓ (ci := 13) (kf := 0) rfl (Nat.le_of_ble_eq_true rfl) q221 dJ3_grow_51) rfl e1 ?_
    refine xw_ild (show xm_Imp g Γ 54 (xi_ild 3 55) from xs_iload_n hΓ dJ3_grow_54) rfl ?_
    obtain ⟨m6, m7, ⟨em1, em2⟩, e⟩ := e
    refine xw_tsr2 (show xm_Imp g Γ 55 (xi_inv g M_J10_copyOf_2 7 2 58) from xs_invS hG hΓ k_J10_copyOf_2 rfl q1291 q1040 dJ3_grow_55) rfl em1 em2 (K_J10_copyOf_2 hG v5 l3 _ _ _ e) (fun v9 h8 e => ?_)
    refine xw_dup_x1 (show xm_Imp g Γ 58 (xi_dup_x1 59) from xs_dup_x1 hΓ dJ3_grow_58) ⟨(xm_c1_rf v9), rfl⟩ ?_
    obtain ⟨h10, e1, e⟩ := e
    refine xw_pt1 (o := (some l0)) (show xm_Imp g Γ 59 (xi_put 13 0 (.array (.object "java/lang/Object")) 62) from xs_put hG hΓ (ci := 13) (kf := 0) rfl (Nat.le_of_ble_eq_true rfl) rfl (by decide +kernel) q221 dJ3_grow_59) rfl (xv_fit (Or.inr ⟨_, rfl⟩) v9) e1 ?_
    refine xw_asto (x := v9) (ls' := [some (.ref l0), none, some (.int l2), some (.int l3), none, some (va_rf v9), none, none, none]) (show xm_Imp g Γ 62 (xi_ast 5 64) from xs_astore hΓ dJ3_grow_62 (Nat.le_of_ble_eq_true rfl)) rfl ?_
    refine xw_ald (show xm_Imp g Γ 64 (xi_ald 0 65) from xs_aload_n hΓ dJ3_grow_64) rfl ?_
    obtain ⟨v11, e1, e⟩ := e
    refine xw_gi1 (o := (some l0)) (show xm_Imp g Γ 65 (xi_get 13 2 68) from xs_get hG hΓ (ci := 13) (kf := 2) rfl (Nat.le_of_ble_eq_true rfl) q225 dJ3_grow_65) rfl e1 ?_
    refine xw_ald (show xm_Imp g Γ 68 (xi_ald 0 69) from xs_aload_n hΓ dJ3_grow_68) rfl ?_
    obtain ⟨v12, e1, e⟩ := e
    refine xw_gi1 (o := (some l0)) (show xm_Imp g Γ 69 (xi_get 13 1 72) from xs_get hG hΓ (ci := 13) (kf := 1) rfl (Nat.le_of_ble_eq_true rfl) q224 dJ3_grow_69) rfl e1 ?_
    refine xw_ic (show xm_Imp g Γ 72 (xi_ic (fun x y => x < y) 96 75) from xs_icmp_lt hΓ dJ3_grow_72 (by decide)) (fun c => ?_) (fun c => ?_)
    · rw [if_pos c] at e
      exact hB_96 _ _ _ _ _ _ _ e
    · rw [if_neg c] at e
      refine xw_ald (show xm_Imp g Γ 75 (xi_ald 0 76) from xs_aload_n hΓ dJ3_grow_75) rfl ?_
      obtain ⟨v23, e1, e⟩ := e
      refine xw_gi1 (o := (some l0)) (show xm_Imp g Γ 76 (xi_get 13 2 79) from xs_get hG hΓ (ci := 13) (kf := 2) rfl (Nat.le_of_ble_eq_true rfl) q225 dJ3_grow_76) rfl e1 ?_
      refine xw_ald (show xm_Imp g Γ 79 (xi_ald 0 80) from xs_aload_n hΓ dJ3_grow_79) rfl ?_
      obtain ⟨v24, e1, e⟩ := e
      refine xw_gi1 (o := (some l0)) (show xm_Imp g Γ 80 (xi_get 13 1 83) from xs_get hG hΓ (ci := 13) (kf := 1) rfl (Nat.le_of_ble_eq_true rfl) q224 dJ3_grow_80) rfl e1 ?_
      refine xw_ic (show xm_Imp g Γ 83 (xi_ic (fun x y => x = y) 86 164) from xs_icmp_ne hΓ dJ3_grow_83 (by decide)) (fun c => ?_) (fun c => ?_)
      · rw [if_pos c] at e
        refine xw_aldo (x := v9) (show xm_Imp g Γ 86 (xi_ald 5 88) from xs_aload hΓ dJ3_grow_86) rfl ?_
        refine xw_ald (show xm_Imp g Γ 88 (xi_ald 0 89) from xs_aload_n hΓ dJ3_grow_88) rfl ?_
        obtain ⟨v25, e1, e⟩ := e
        refine xw_gi1 (o := (some l0)) (show xm_Imp g Γ 89 (xi_get 13 1 92) from xs_get hG hΓ (ci := 13) (kf := 1) rfl (Nat.le_of_ble_eq_true rfl) q224 dJ3_grow_89) rfl e1 ?_
        obtain ⟨a26, ha26, e⟩ := e
        obtain ⟨v27, e1, e⟩ := e
        refine xw_haal (o := v9) (show xm_Imp g Γ 92 (xi_aal "java/lang/Object" 93) from xs_aal hG hΓ dJ3_grow_92) ha26 e1 ?_
        refine xw_nul (o := v27) (show xm_Imp g Γ 93 (xi_nul 164 96) from xs_ifnull hΓ dJ3_grow_93 (by decide)) (fun c => ?_) (fun c => ?_)
        · rw [if_pos c] at e
          exact xw_vret (show xm_Imp g Γ 164 (xi_vret _) from xs_return hΓ rfl dJ3_grow_164) ⟨rfl, e⟩
        · rw [if_neg c] at e
          exact hB_96 _ _ _ _ _ _ _ e
      · rw [if_neg c] at e
        exact xw_vret (show xm_Imp g Γ 164 (xi_vret _) from xs_return hΓ rfl dJ3_grow_164) ⟨rfl, e⟩
  have hB_41 : ∀ (l0 : Nat) (l1 : Int32) (l2 : Int32) (l4 : Int32) (h : xm_H) (bc : Nat) (bs : Nat), B_J3_grow_41 g l0 l1 l2 l4 h bc bs Q → xm_W g Γ 41 [some (.ref l0), some (.int l1), some (.int l2), none, some (.int l4), none, none, none, none] [] h bc bs := by
    intro l0 l1 l2 l4 h bc bs e
    unfold B_J3_grow_41 at e
    refine xw_ald (show xm_Imp g Γ 41 (xi_ald 0 42) from xs_aload_n hΓ dJ3_grow_41) rfl ?_
    refine xw_ild (show xm_Imp g Γ 42 (xi_ild 1 43) from xs_iload_n hΓ dJ3_grow_42) rfl ?_
    refine xw_ild (show xm_Imp g Γ 43 (xi_ild 4 45) from xs_iload hΓ dJ3_grow_43) rfl ?_
    obtain ⟨_, e0, e⟩ := e
    obtain ⟨v4, e1, e⟩ := e
    refine xw_hv2 (o := (some l0)) (show xm_Imp g Γ 45 (xi_vir g 13 M_J3_newCapacity 8 2 48) from xs_invV hG hΓ k_J3_newCapacity rfl (ci := 13) rfl q1270 q1272 qs25 dJ3_grow_45) rfl rfl e0 (fun Q X hQ => K_J3_newCapacity hG l0 l1 l4 _ e1 hQ) ?_
    refine xw_ist (ls' := [some (.ref l0), some (.int l1), some (.int l2), some (.int v4), some (.int l4), none, none, none, none]) (show xm_Imp g Γ 48 (xi_ist 3 49) from xs_istore_n hΓ dJ3_grow_48 (Nat.le_of_ble_eq_true rfl)) rfl ?_
    exact xm_lx (hB_49 _ _ _ _ _ _ e) (And.intro rfl (And.intro rfl (And.intro rfl (trivial))))
  have hB_21 : ∀ (l0 : Nat) (l1 : Int32) (l2 : Int32) (s0 : Int32) (h : xm_H) (bc : Nat) (bs : Nat), B_J3_grow_21 g l0 l1 l2 s0 h bc bs Q → xm_W g Γ 21 [some (.ref l0), some (.int l1), some (.int l2), none, none, none, none, none, none] [.int s0] h bc bs := by
    intro l0 l1 l2 s0 h bc bs e
    unfold B_J3_grow_21 at e
    refine xw_ist (ls' := [some (.ref l0), some (.int l1), some (.int l2), none, some (.int s0), none, none, none, none]) (show xm_Imp g Γ 21 (xi_ist 4 23) from xs_istore hΓ dJ3_grow_21 (Nat.le_of_ble_eq_true rfl)) rfl ?_
    refine xw_ild (show xm_Imp g Γ 23 (xi_ild 4 25) from xs_iload hΓ dJ3_grow_23) rfl ?_
    refine xw_ild (show xm_Imp g Γ 25 (xi_ild 1 26) from xs_iload_n hΓ dJ3_grow_25) rfl ?_
    refine xw_ic (show xm_Imp g Γ 26 (xi_ic (fun x y => x < y) 41 29) from xs_icmp_lt hΓ dJ3_grow_26 (by decide)) (fun c => ?_) (fun c => ?_)
    · rw [if_pos c] at e
      exact hB_41 _ _ _ _ _ _ _ e
    · rw [if_neg c] at e
      refine xw_ild (show xm_Imp g Γ 29 (xi_ild 2 30) from xs_iload_n hΓ dJ3_grow_29) rfl ?_
      refine xw_ild (show xm_Imp g Γ 30 (xi_ild 4 32) from xs_iload hΓ dJ3_grow_30) rfl ?_
      refine xw_ii (show xm_Imp g Γ 32 (xi_ii (fun x y => x + y) 33) from xs_iadd hΓ dJ3_grow_32) ?_
      refine xw_dup (show xm_Imp g Γ 33 (xi_dup 34) from xs_dup hΓ dJ3_grow_33) rfl ?_
      refine xw_ist (ls' := [some (.ref l0), some (.int l1), some (.int l2), some (.int (l2 + s0)), some (.int s0), none, none, none, none]) (show xm_Imp g Γ 34 (xi_ist 3 35) from xs_istore_n hΓ dJ3_grow_34 (Nat.le_of_ble_eq_true rfl)) rfl ?_
      refine xw_psh (v := (.int (2147483639))) (show xm_Imp g Γ 35 (xi_psh (.int (2147483639)) 37) from xs_ldc hG hΓ q1269 dJ3_grow_35) ?_
      refine xw_ii (show xm_Imp g Γ 37 (xi_ii (fun x y => x - y) 38) from xs_isub hΓ dJ3_grow_37) ?_
      refine xw_if (show xm_Imp g Γ 38 (xi_if (fun x => x ≤ 0) 49 41) from xs_if_le hΓ dJ3_grow_38 (by decide)) (fun c => ?_) (fun c => ?_)
      · rw [if_pos c] at e
        exact xm_lx (hB_49 _ _ _ _ _ _ e) (And.intro rfl (And.intro rfl (And.intro rfl (trivial))))
      · rw [if_neg c] at e
        exact xm_lx (hB_41 _ _ _ _ _ _ _ e) (And.intro rfl (And.intro rfl (And.intro rfl (And.intro rfl (trivial)))))
  unfold F_J3_grow at e
  refine xw_ald (show xm_Imp g Γ 0 (xi_ald 0 1) from xs_aload_n hΓ dJ3_grow_0) rfl ?_
  obtain ⟨v1, e1, e⟩ := e
  refine xw_gr1 (o := (some p0)) (show xm_Imp g Γ 1 (xi_get 13 0 4) from xs_get hG hΓ (ci := 13) (kf := 0) rfl (Nat.le_of_ble_eq_true rfl) q221 dJ3_grow_1) rfl e1 ?_
  obtain ⟨a2, ha2, e⟩ := e
  obtain ⟨v3, e1, e⟩ := e
  refine xw_hlen (o := v1) (show xm_Imp g Γ 4 (xi_len 5) from xs_len hG hΓ dJ3_grow_4) ha2 e1 ?_
  refine xw_ist (ls' := [some (.ref p0), some (.int p1), some (.int v3), none, none, none, none, none, none]) (show xm_Imp g Γ 5 (xi_ist 2 6) from xs_istore_n hΓ dJ3_grow_5 (Nat.le_of_ble_eq_true rfl)) rfl ?_
  refine xw_ild (show xm_Imp g Γ 6 (xi_ild 2 7) from xs_iload_n hΓ dJ3_grow_6) rfl ?_
  refine xw_psh (v := (.int (64))) (show xm_Imp g Γ 7 (xi_psh (.int (64)) 9) from xs_bipush hΓ dJ3_grow_7 (by decide)) ?_
  refine xw_ic (show xm_Imp g Γ 9 (xi_ic (fun x y => y ≤ x) 18 12) from xs_icmp_ge hΓ dJ3_grow_9 (by decide)) (fun c => ?_) (fun c => ?_)
  · rw [if_pos c] at e
    refine xw_ild (show xm_Imp g Γ 18 (xi_ild 2 19) from xs_iload_n hΓ dJ3_grow_18) rfl ?_
    refine xw_psh (v := (.int (1))) (show xm_Imp g Γ 19 (xi_psh (.int (1)) 20) from xs_iconst hΓ dJ3_grow_19 (by decide)) ?_
    refine xw_ii (show xm_Imp g Γ 20 (xi_ii (fun x y => x >>> (y &&& 31)) 21) from xs_ishr hΓ dJ3_grow_20) ?_
    exact hB_21 _ _ _ _ _ _ _ e
  · rw [if_neg c] at e
    refine xw_ild (show xm_Imp g Γ 12 (xi_ild 2 13) from xs_iload_n hΓ dJ3_grow_12) rfl ?_
    refine xw_psh (v := (.int (2))) (show xm_Imp g Γ 13 (xi_psh (.int (2)) 14) from xs_iconst hΓ dJ3_grow_13 (by decide)) ?_
    refine xw_ii (show xm_Imp g Γ 14 (xi_ii (fun x y => x + y) 15) from xs_iadd hΓ dJ3_grow_14) ?_
    refine xw_goto (show xm_Imp g Γ 15 (xi_goto 21) from xs_goto hΓ dJ3_grow_15 (by decide)) ?_
    exact hB_21 _ _ _ _ _ _ _ e
noncomputable def F_J3_addLast (g : xm_G) (p0 : Nat) (p1 : Option Nat) (h : xm_H) (bc : Nat) (bs : Nat) (Q : xm_H → Prop) : Prop :=
 (if p1 = none then
 False else
 xt_b (xh_fr [(13, 0)] h p0) (fun v1 =>
 xt_b (xh_fi [(13, 2)] h p0) (fun v2 =>
 xt_b v1 (fun a3 =>
 xt_b (xh_sr "java/lang/Object" h a3 v2 p1) (fun h4 =>
 xt_b (xh_fi [(13, 1)] h4 p0) (fun v5 =>
 xt_b (xh_fi [(13, 2)] h4 p0) (fun v6 =>
 xt_b (xh_len h4 a3) (fun v7 =>
 xt_b (xh_w [(13, 2)] h4 p0 (.int (F_J3_inc v6 v7))) (fun h8 =>
 (if v5 = (F_J3_inc v6 v7) then
 xt_b (xh_is 13 h8 p0) (fun _ =>
 xt_c bc bs (fun m9 m10 => F_J3_grow g p0 1 h8 m9 m10 (fun h11 =>
 Q h11))) else
 Q h8))))))))))
set_option maxHeartbeats 4000000 in
theorem K_J3_addLast {g : xm_G} (hG : xm_Gw g) (p0 : Nat) (p1 : Option Nat) (h : xm_H) (bc : Nat) (bs : Nat) {Q : xm_H → Prop} (e : F_J3_addLast g p0 p1 h bc bs Q) : xm_Run g M_J3_addLast 10 [.ref p0, va_rf p1] h bc bs (fun v h' => v = none ∧ Q h') xm_no := by
  refine xm_Run.of2 (ls := [some (.ref p0), some (va_rf p1), none]) pn_java_util_ArrayDeque (by cases p1 <;> exact Nat.le_of_ble_eq_true rfl) (by cases p1 <;> rfl) (fun Γ hΓ => ?_)
  show xm_W g Γ 0 [some (.ref p0), some (va_rf p1), none] [] h bc bs
  unfold F_J3_addLast at e
  refine xw_aldo (x := p1) (show xm_Imp g Γ 0 (xi_ald 1 1) from xs_aload_n hΓ dJ3_addLast_0) rfl ?_
  refine xw_nul (o := p1) (show xm_Imp g Γ 1 (xi_nul 4 12) from xs_ifnonnull hΓ dJ3_addLast_1 (by decide)) (fun c => ?_) (fun c => ?_)
  · rw [if_pos c] at e
    exact e.elim
  · rw [if_neg c] at e
    refine xw_ald (show xm_Imp g Γ 12 (xi_ald 0 13) from xs_aload_n hΓ dJ3_addLast_12) rfl ?_
    obtain ⟨v1, e1, e⟩ := e
    refine xw_gr1 (o := (some p0)) (show xm_Imp g Γ 13 (xi_get 13 0 16) from xs_get hG hΓ (ci := 13) (kf := 0) rfl (Nat.le_of_ble_eq_true rfl) q221 dJ3_addLast_13) rfl e1 ?_
    refine xw_asto (x := v1) (ls' := [some (.ref p0), some (va_rf p1), some (va_rf v1)]) (show xm_Imp g Γ 16 (xi_ast 2 17) from xs_astore_n hΓ dJ3_addLast_16 (Nat.le_of_ble_eq_true rfl)) ((xm_s1_o (o := p1) rfl).trans rfl) ?_
    refine xw_aldo (x := v1) (show xm_Imp g Γ 17 (xi_ald 2 18) from xs_aload_n hΓ dJ3_addLast_17) rfl ?_
    refine xw_ald (show xm_Imp g Γ 18 (xi_ald 0 19) from xs_aload_n hΓ dJ3_addLast_18) rfl ?_
    obtain ⟨v2, e1, e⟩ := e
    refine xw_gi1 (o := (some p0)) (show xm_Imp g Γ 19 (xi_get 13 2 22) from xs_get hG hΓ (ci := 13) (kf := 2) rfl (Nat.le_of_ble_eq_true rfl) q225 dJ3_addLast_19) rfl e1 ?_
    refine xw_aldo (x := p1) (show xm_Imp g Γ 22 (xi_ald 1 23) from xs_aload_n hΓ dJ3_addLast_22) rfl ?_
    obtain ⟨a3, ha3, e⟩ := e
    obtain ⟨h4, e1, e⟩ := e
    refine xw_haas (o := v1) (v := p1) (show xm_Imp g Γ 23 (xi_aas "java/lang/Object" 24) from xs_aas hG hΓ dJ3_addLast_23) ha3 e1 ?_
    refine xw_ald (show xm_Imp g Γ 24 (xi_ald 0 25) from xs_aload_n hΓ dJ3_addLast_24) rfl ?_
    obtain ⟨v5, e1, e⟩ := e
    refine xw_gi1 (o := (some p0)) (show xm_Imp g Γ 25 (xi_get 13 1 28) from xs_get hG hΓ (ci := 13) (kf := 1) rfl (Nat.le_of_ble_eq_true rfl) q224 dJ3_addLast_25) rfl e1 ?_
    refine xw_ald (show xm_Imp g Γ 28 (xi_ald 0 29) from xs_aload_n hΓ dJ3_addLast_28) rfl ?_
    refine xw_ald (show xm_Imp g Γ 29 (xi_ald 0 30) from xs_aload_n hΓ dJ3_addLast_29) rfl ?_
    obtain ⟨v6, e1, e⟩ := e
    refine xw_gi1 (o := (some p0)) (show xm_Imp g Γ 30 (xi_get 13 2 33) from xs_get hG hΓ (ci := 13) (kf := 2) rfl (Nat.le_of_ble_eq_true rfl) q225 dJ3_addLast_30) rfl e1 ?_
    refine xw_aldo (x := v1) (show xm_Imp g Γ 33 (xi_ald 2 34) from xs_aload_n hΓ dJ3_addLast_33) rfl ?_
    obtain ⟨v7, e1, e⟩ := e
    refine xw_hlen (o := v1) (show xm_Imp g Γ 34 (xi_len 35) from xs_len hG hΓ dJ3_addLast_34) ha3 e1 ?_
    refine xw_sv2 (show xm_Imp g Γ 35 (xi_inv g M_J3_inc 1 2 38) from xs_invS hG hΓ k_J3_inc rfl q1258 q1259 dJ3_addLast_35) rfl (fun Q X hQ => K_J3_inc hG v6 v7 rfl hQ) ?_
    refine xw_dup_x1 (show xm_Imp g Γ 38 (xi_dup_x1 39) from xs_dup_x1 hΓ dJ3_addLast_38) ⟨rfl, rfl⟩ ?_
    obtain ⟨h8, e1, e⟩ := e
    refine xw_pt1 (o := (some p0)) (show xm_Imp g Γ 39 (xi_put 13 2 (.int) 42) from xs_put hG hΓ (ci := 13) (kf := 2) rfl (Nat.le_of_ble_eq_true rfl) rfl (by decide +kernel) q225 dJ3_addLast_39) rfl (xf_int _) e1 ?_
    refine xw_ic (show xm_Imp g Γ 42 (xi_ic (fun x y => x = y) 45 50) from xs_icmp_ne hΓ dJ3_addLast_42 (by decide)) (fun c => ?_) (fun c => ?_)
    · rw [if_pos c] at e
      refine xw_ald (show xm_Imp g Γ 45 (xi_ald 0 46) from xs_aload_n hΓ dJ3_addLast_45) rfl ?_
      refine xw_psh (v := (.int (1))) (show xm_Imp g Γ 46 (xi_psh (.int (1)) 47) from xs_iconst hΓ dJ3_addLast_46 (by decide)) ?_
      obtain ⟨_, e0, e⟩ := e
      obtain ⟨m9, m10, ⟨em1, em2⟩, e⟩ := e
      refine xw_tvu1 (o := (some p0)) (show xm_Imp g Γ 47 (xi_vir g 13 M_J3_grow 9 1 50) from xs_invV hG hΓ k_J3_grow rfl (ci := 13) rfl q1265 q1267 qs24 dJ3_addLast_47) rfl rfl e0 em1 em2 (K_J3_grow hG p0 1 _ _ _ e) (fun h11 e => ?_)
      exact xw_vret (show xm_Imp g Γ 50 (xi_vret _) from xs_return hΓ rfl dJ3_addLast_50) ⟨rfl, e⟩
    · rw [if_neg c] at e
      exact xw_vret (show xm_Imp g Γ 50 (xi_vret _) from xs_return hΓ rfl dJ3_addLast_50) ⟨rfl, e⟩
noncomputable def D_X2_copy_53 (g : xm_G) (l0 : Nat) (l1 : Option Nat) (l2 : Option Nat) (Q : Option Nat → xm_H → Prop) (k53 : xm_H × Nat × Nat → Prop) (s : xm_H × Nat × Nat) : Prop :=
 xt_b l2 (fun a35 =>
 xt_b (xh_ci s.1 a35) (fun c36 =>
 (if c36 = 10 then
 xt_b (F_X12_hasNext g a35 s.1) (fun v37 =>
 (if v37 = 0 then
 xt_b (xh_fr [(1, 3)] s.1 l0) (fun v38 =>
 xt_b l1 (fun a39 =>
 xt_b (xh_fr [(1, 3)] s.1 a39) (fun v40 =>
 xt_b v38 (fun a41 =>
 xt_b v40 (fun a42 =>
 xt_b (xh_cpi .int s.1 a41 0 a42 0 60) (fun h43 =>
 xt_b (xh_fi [(1, 5)] h43 l0) (fun v44 =>
 xt_b (xh_w [(1, 5)] h43 a39 (.int v44)) (fun h45 =>
 xt_b (xh_fi [(1, 6)] h45 l0) (fun v46 =>
 xt_b (xh_w [(1, 6)] h45 a39 (.int v46)) (fun h47 =>
 Q l1 h47)))))))))) else
 xt_b (xh_ci s.1 a35) (fun c48 =>
 (if c48 = 10 then
 xt_c s.2.1 s.2.2 (fun m49 m50 => F_X12_next g a35 s.1 m49 m50 (fun v52 h51 =>
 xt_b (xh_castA (.int) h51 v52) (fun _ =>
 xt_b l1 (fun a53 =>
 xt_b (xh_fr [(1, 2)] h51 a53) (fun v54 =>
 xt_b v54 (fun a55 =>
 xt_b (xh_is 13 h51 a55) (fun _ =>
 xt_c (s.2.1 - m49) (s.2.2 - m50) (fun m56 m57 => F_J3_addLast g a55 v52 h51 m56 m57 (fun h58 =>
 k53 (h58, ((s.2.1 - m49) - m56), ((s.2.2 - m50) - m57))))))))))) else
 (if c48 = 16 then
 xt_b (F_J23_next g a35 s.1) (fun v60 =>
 xt_b (xh_castA (.int) v60.2 v60.1) (fun _ =>
 xt_b l1 (fun a61 =>
 xt_b (xh_fr [(1, 2)] v60.2 a61) (fun v62 =>
 xt_b v62 (fun a63 =>
 xt_b (xh_is 13 v60.2 a63) (fun _ =>
 xt_c s.2.1 s.2.2 (fun m64 m65 => F_J3_addLast g a63 v60.1 v60.2 m64 m65 (fun h66 =>
 k53 (h66, (s.2.1 - m64), (s.2.2 - m65)))))))))) else
 False))))) else
 (if c36 = 16 then
 xt_b (F_J23_hasNext g a35 s.1) (fun v68 =>
 (if v68 = 0 then
 xt_b (xh_fr [(1, 3)] s.1 l0) (fun v69 =>
 xt_b l1 (fun a70 =>
 xt_b (xh_fr [(1, 3)] s.1 a70) (fun v71 =>
 xt_b v69 (fun a72 =>
 xt_b v71 (fun a73 =>
 xt_b (xh_cpi .int s.1 a72 0 a73 0 60) (fun h74 =>
 xt_b (xh_fi [(1, 5)] h74 l0) (fun v75 =>
 xt_b (xh_w [(1, 5)] h74 a70 (.int v75)) (fun h76 =>
 xt_b (xh_fi [(1, 6)] h76 l0) (fun v77 =>
 xt_b (xh_w [(1, 6)] h76 a70 (.int v77)) (fun h78 =>
 Q l1 h78)))))))))) else
 xt_b (xh_ci s.1 a35) (fun c79 =>
 (if c79 = 10 then
 xt_c s.2.1 s.2.2 (fun m80 m81 => F_X12_next g a35 s.1 m80 m81 (fun v83 h82 =>
 xt_b (xh_castA (.int) h82 v83) (fun _ =>
 xt_b l1 (fun a84 =>
 xt_b (xh_fr [(1, 2)] h82 a84) (fun v85 =>
 xt_b v85 (fun a86 =>
 xt_b (xh_is 13 h82 a86) (fun _ =>
 xt_c (s.2.1 - m80) (s.2.2 - m81) (fun m87 m88 => F_J3_addLast g a86 v83 h82 m87 m88 (fun h89 =>
 k53 (h89, ((s.2.1 - m80) - m87), ((s.2.2 - m81) - m88))))))))))) else
 (if c79 = 16 then
 xt_b (F_J23_next g a35 s.1) (fun v91 =>
 xt_b (xh_castA (.int) v91.2 v91.1) (fun _ =>
 xt_b l1 (fun a92 =>
 xt_b (xh_fr [(1, 2)] v91.2 a92) (fun v93 =>
 xt_b v93 (fun a94 =>
 xt_b (xh_is 13 v91.2 a94) (fun _ =>
 xt_c s.2.1 s.2.2 (fun m95 m96 => F_J3_addLast g a94 v91.1 v91.2 m95 m96 (fun h97 =>
 k53 (h97, (s.2.1 - m95), (s.2.2 - m96)))))))))) else
 False))))) else
 False))))
noncomputable def L_X2_copy_53 (g : xm_G) (l0 : Nat) (l1 : Option Nat) (l2 : Option Nat) (Q : Option Nat → xm_H → Prop) (s : xm_H × Nat × Nat) : Prop := xt_loop (D_X2_copy_53 g l0 l1 l2 Q) s
noncomputable def F_X2_copy (g : xm_G) (p0 : Nat) (h : xm_H) (bc : Nat) (bs : Nat) (Q : Option Nat → xm_H → Prop) : Prop :=
 xt_new h bc bs 7 (.inr (1, [.null, .null, .null, .null, .int 0, .int 0, .int 0])) (fun a1 h2 b3 b4 =>
 xt_b (xh_fr [(1, 0)] h2 p0) (fun v5 =>
 xt_b v5 (fun a6 =>
 xt_b (xh_fr [(2, 0)] h2 a6) (fun v7 =>
 xt_b v7 (fun a8 =>
 xt_b (xh_len h2 a8) (fun v9 =>
 xt_b (xh_fi [(1, 4)] h2 p0) (fun v10 =>
 xt_c b3 b4 (fun m11 m12 => F_X2_init g a1 v9 v10 h2 m11 m12 (fun h13 =>
 xt_b (xh_fr [(1, 0)] h13 p0) (fun v15 =>
 xt_b v15 (fun a16 =>
 xt_b (xh_is 2 h13 a16) (fun _ =>
 xt_c (b3 - m11) (b4 - m12) (fun m17 m18 => F_X3_copy g a16 h13 m17 m18 (fun v20 h19 =>
 xt_b (xh_w [(1, 0)] h19 a1 (va_rf v20)) (fun h21 =>
 xt_b (xh_fr [(1, 1)] h21 a1) (fun v22 =>
 xt_b (xh_fr [(1, 1)] h21 p0) (fun v23 =>
 xt_b v22 (fun a24 =>
 xt_b (xh_is 12 h21 a24) (fun _ =>
 xt_c ((b3 - m11) - m17) ((b4 - m12) - m18) (fun m25 m26 => F_J2_addAll g a24 v23 h21 m25 m26 (fun v28 h27 =>
 xt_b (xh_fr [(1, 2)] h27 p0) (fun v29 =>
 xt_b v29 (fun a30 =>
 xt_b (xh_is 13 h27 a30) (fun _ =>
 xt_c (((b3 - m11) - m17) - m25) (((b4 - m12) - m18) - m26) (fun m31 m32 => F_J3_iterator g a30 h27 m31 m32 (fun v34 h33 =>
 L_X2_copy_53 g p0 (some a1) v34 Q (h33, ((((b3 - m11) - m17) - m25) - m31), ((((b4 - m12) - m18) - m26) - m32))))))))))))))))))))))))))))
set_option maxHeartbeats 4000000 in
theorem K_X2_copy {g : xm_G} (hG : xm_Gw g) (p0 : Nat) (h : xm_H) (bc : Nat) (bs : Nat) {Q : Option Nat → xm_H → Prop} (e : F_X2_copy g p0 h bc bs Q) : xm_Run g M_X2_copy 11 [.ref p0] h bc bs (fun v h' => ∃ r, v = some (va_rf r) ∧ Q r h') xm_no := by
  refine xm_Run.of pn_StringTableau_State (Nat.le_of_ble_eq_true rfl) (fun Γ hΓ => ?_)
  show xm_W g Γ 0 [some (.ref p0), none, none, none] [] h bc bs
  have hL_53 : ∀ (l0 : Nat) (l1 : Option Nat) (l2 : Option Nat) (s : xm_H × Nat × Nat), L_X2_copy_53 g l0 l1 l2 Q s → xm_W g Γ 53 [some (.ref l0), some (va_rf l1), some (va_rf l2), none] [] s.1 s.2.1 s.2.2 := by
    intro l0 l1 l2
    refine xt_rule (WS := fun s : xm_H × Nat × Nat => xm_W g Γ 53 [some (.ref l0), some (va_rf l1), some (va_rf l2), none] [] s.1 s.2.1 s.2.2) ?_
    intro k53 hk53 s e
    unfold D_X2_copy_53 at e
    refine xw_aldo (x := l2) (show xm_Imp g Γ 53 (xi_ald 2 54) from xs_aload_n hΓ dX2_copy_53) rfl ?_
    obtain ⟨a35, ha35, e⟩ := e
    obtain ⟨c36, e0, e⟩ := e
    by_cases cc0 : c36 = 10
    · rw [if_pos cc0] at e
      obtain ⟨v37, e1, e⟩ := e
      refine xw_hv0 (o := l2) (xm_or1 (show xm_Imp g Γ 54 (xi_or (xi_vir g 10 M_X12_hasNext 1 0 59) (xi_vir g 16 M_J23_hasNext 1 0 59)) from xs_or (xs_invF hG hΓ k_X12_hasNext rfl (ci := 10) rfl q1395 q1401 q1399 ⟨by decide, by decide⟩ (by decide +kernel) q1397 q1396 q1402 q1400 q1398 dX2_copy_54) (xs_invF hG hΓ k_J23_hasNext rfl (ci := 16) rfl q1395 q1407 q1405 ⟨by decide, by decide⟩ (by decide +kernel) q1397 q1396 q1408 q1406 q1404 dX2_copy_54))) (by simp [xm_stk, xv_cat, xc_int, xc_long, xc_float, xc_double, xc_ref]) ha35 (xh_is_of e0 cc0) (fun Q X hQ => K_X12_hasNext hG a35 _ e1 hQ) ?_
      refine xw_if (show xm_Imp g Γ 59 (xi_if (fun x => x = 0) 83 62) from xs_if_eq hΓ dX2_copy_59 (by decide)) (fun c => ?_) (fun c => ?_)
      · rw [if_pos c] at e
        refine xw_ald (show xm_Imp g Γ 83 (xi_ald 0 84) from xs_aload_n hΓ dX2_copy_83) rfl ?_
        obtain ⟨v38, e1, e⟩ := e
        refine xw_gr1 (o := (some l0)) (show xm_Imp g Γ 84 (xi_get 1 3 87) from xs_get hG hΓ (ci := 1) (kf := 3) rfl (Nat.le_of_ble_eq_true rfl) q281 dX2_copy_84) rfl e1 ?_
        refine xw_psh (v := (.int (0))) (show xm_Imp g Γ 87 (xi_psh (.int (0)) 88) from xs_iconst hΓ dX2_copy_87 (by decide)) ?_
        refine xw_aldo (x := l1) (show xm_Imp g Γ 88 (xi_ald 1 89) from xs_aload_n hΓ dX2_copy_88) rfl ?_
        obtain ⟨a39, ha39, e⟩ := e
        obtain ⟨v40, e1, e⟩ := e
        refine xw_gr1 (o := l1) (show xm_Imp g Γ 89 (xi_get 1 3 92) from xs_get hG hΓ (ci := 1) (kf := 3) rfl (Nat.le_of_ble_eq_true rfl) q281 dX2_copy_89) ha39 e1 ?_
        refine xw_psh (v := (.int (0))) (show xm_Imp g Γ 92 (xi_psh (.int (0)) 93) from xs_iconst hΓ dX2_copy_92 (by decide)) ?_
        refine xw_psh (v := (.int (60))) (show xm_Imp g Γ 93 (xi_psh (.int (60)) 95) from xs_bipush hΓ dX2_copy_93 (by decide)) ?_
        obtain ⟨a41, ha41, e⟩ := e
        obtain ⟨a42, ha42, e⟩ := e
        obtain ⟨h43, e1, e⟩ := e
        refine xw_cpi (o := v38) (o1 := v40) (show xm_Imp g Γ 95 (xi_cpi .int 98) from xs_cpi hG hΓ (ty := .int) rfl rfl q1457 dX2_copy_95) ha41 ha42 rfl e1 ?_
        refine xw_aldo (x := l1) (show xm_Imp g Γ 98 (xi_ald 1 99) from xs_aload_n hΓ dX2_copy_98) rfl ?_
        refine xw_ald (show xm_Imp g Γ 99 (xi_ald 0 100) from xs_aload_n hΓ dX2_copy_99) rfl ?_
        obtain ⟨v44, e1, e⟩ := e
        refine xw_gi1 (o := (some l0)) (show xm_Imp g Γ 100 (xi_get 1 5 103) from xs_get hG hΓ (ci := 1) (kf := 5) rfl (Nat.le_of_ble_eq_true rfl) q285 dX2_copy_100) rfl e1 ?_
        obtain ⟨h45, e1, e⟩ := e
        refine xw_pt1 (o := l1) (show xm_Imp g Γ 103 (xi_put 1 5 (.int) 106) from xs_put hG hΓ (ci := 1) (kf := 5) rfl (Nat.le_of_ble_eq_true rfl) rfl (by decide +kernel) q285 dX2_copy_103) ha39 (xf_int _) e1 ?_
        refine xw_aldo (x := l1) (show xm_Imp g Γ 106 (xi_ald 1 107) from xs_aload_n hΓ dX2_copy_106) rfl ?_
        refine xw_ald (show xm_Imp g Γ 107 (xi_ald 0 108) from xs_aload_n hΓ dX2_copy_107) rfl ?_
        obtain ⟨v46, e1, e⟩ := e
        refine xw_gi1 (o := (some l0)) (show xm_Imp g Γ 108 (xi_get 1 6 111) from xs_get hG hΓ (ci := 1) (kf := 6) rfl (Nat.le_of_ble_eq_true rfl) q287 dX2_copy_108) rfl e1 ?_
        obtain ⟨h47, e1, e⟩ := e
        refine xw_pt1 (o := l1) (show xm_Imp g Γ 111 (xi_put 1 6 (.int) 114) from xs_put hG hΓ (ci := 1) (kf := 6) rfl (Nat.le_of_ble_eq_true rfl) rfl (by decide +kernel) q287 dX2_copy_111) ha39 (xf_int _) e1 ?_
        refine xw_aldo (x := l1) (show xm_Imp g Γ 114 (xi_ald 1 115) from xs_aload_n hΓ dX2_copy_114) rfl ?_
        exact xw_areto (show xm_Imp g Γ 115 (xi_aret _) from xs_areturn hΓ rfl (Or.inl ⟨_, rfl⟩) dX2_copy_115) ⟨_, rfl, e⟩
      · rw [if_neg c] at e
        refine xw_aldo (x := l2) (show xm_Imp g Γ 62 (xi_ald 2 63) from xs_aload_n hΓ dX2_copy_62) rfl ?_
        obtain ⟨c48, e0, e⟩ := e
        by_cases cc0 : c48 = 10
        · rw [if_pos cc0] at e
          obtain ⟨m49, m50, ⟨em1, em2⟩, e⟩ := e
          refine xw_tvr0 (o := l2) (xm_or1 (show xm_Imp g Γ 63 (xi_or (xi_vir g 10 M_X12_next 9 0 68) (xi_vir g 16 M_J23_next 9 0 68)) from xs_or (xs_invF hG hΓ k_X12_next rfl (ci := 10) rfl q1411 q1416 q1414 ⟨by decide, by decide⟩ (by decide +kernel) q1413 q1412 q1417 q1415 q1398 dX2_copy_63) (xs_invF hG hΓ k_J23_next rfl (ci := 16) rfl q1411 q1448 q1446 ⟨by decide, by decide⟩ (by decide +kernel) q1413 q1412 q1449 q1447 q1404 dX2_copy_63))) (by simp [xm_stk, xv_cat, xc_int, xc_long, xc_float, xc_double, xc_ref]) ha35 (xh_is_of e0 cc0) em1 em2 (K_X12_next hG a35 _ _ _ e) (fun v52 h51 e => ?_)
          obtain ⟨_, e1, e⟩ := e
          refine xw_castA (o := v52) (show xm_Imp g Γ 68 (xi_castA (.int) 71) from xs_castB hG hΓ (ty := .int) (by decide +kernel) q1455 dX2_copy_68) e1 ?_
          refine xw_asto (x := v52) (ls' := [some (.ref l0), some (va_rf l1), some (va_rf l2), some (va_rf v52)]) (show xm_Imp g Γ 71 (xi_ast 3 72) from xs_astore_n hΓ dX2_copy_71 (Nat.le_of_ble_eq_true rfl)) ((xm_s1_o (o := l2) rfl).trans rfl) ?_
          refine xw_aldo (x := l1) (show xm_Imp g Γ 72 (xi_ald 1 73) from xs_aload_n hΓ dX2_copy_72) rfl ?_
          obtain ⟨a53, ha53, e⟩ := e
          obtain ⟨v54, e1, e⟩ := e
          refine xw_gr1 (o := l1) (show xm_Imp g Γ 73 (xi_get 1 2 76) from xs_get hG hΓ (ci := 1) (kf := 2) rfl (Nat.le_of_ble_eq_true rfl) q279 dX2_copy_73) ha53 e1 ?_
          refine xw_aldo (x := v52) (show xm_Imp g Γ 76 (xi_ald 3 77) from xs_aload_n hΓ dX2_copy_76) rfl ?_
          obtain ⟨a55, ha55, e⟩ := e
          obtain ⟨_, e0, e⟩ := e
          obtain ⟨m56, m57, ⟨em1, em2⟩, e⟩ := e
          refine xw_tvu1 (o := v54) (show xm_Imp g Γ 77 (xi_vir g 13 M_J3_addLast 10 1 80) from xs_invV hG hΓ k_J3_addLast rfl (ci := 13) rfl q1456 q1262 q1263 dX2_copy_77) (by simp [xm_stk, xv_cat, xc_int, xc_long, xc_float, xc_double, xc_ref]) ha55 e0 em1 em2 (K_J3_addLast hG a55 v52 _ _ _ e) (fun h58 e => ?_)
          refine xw_goto (show xm_Imp g Γ 80 (xi_goto 53) from xs_goto hΓ dX2_copy_80 (by decide)) ?_
          have hq := hk53 _ e; exact xm_lx (hq) (And.intro rfl (And.intro rfl (And.intro rfl (trivial))))
        rw [if_neg cc0] at e
        by_cases cc1 : c48 = 16
        · rw [if_pos cc1] at e
          obtain ⟨v60, e1, e⟩ := e
          refine xw_hv0 (o := l2) (xm_or2 (show xm_Imp g Γ 63 (xi_or (xi_vir g 10 M_X12_next 9 0 68) (xi_vir g 16 M_J23_next 9 0 68)) from xs_or (xs_invF hG hΓ k_X12_next rfl (ci := 10) rfl q1411 q1416 q1414 ⟨by decide, by decide⟩ (by decide +kernel) q1413 q1412 q1417 q1415 q1398 dX2_copy_63) (xs_invF hG hΓ k_J23_next rfl (ci := 16) rfl q1411 q1448 q1446 ⟨by decide, by decide⟩ (by decide +kernel) q1413 q1412 q1449 q1447 q1404 dX2_copy_63))) (by simp [xm_stk, xv_cat, xc_int, xc_long, xc_float, xc_double, xc_ref]) ha35 (xh_is_of e0 cc1) (fun Q X hQ => K_J23_next hG a35 _ e1 hQ) ?_
          obtain ⟨_, e1, e⟩ := e
          refine xw_castA (o := v60.1) (show xm_Imp g Γ 68 (xi_castA (.int) 71) from xs_castB hG hΓ (ty := .int) (by decide +kernel) q1455 dX2_copy_68) e1 ?_
          refine xw_asto (x := v60.1) (ls' := [some (.ref l0), some (va_rf l1), some (va_rf l2), some (va_rf v60.1)]) (show xm_Imp g Γ 71 (xi_ast 3 72) from xs_astore_n hΓ dX2_copy_71 (Nat.le_of_ble_eq_true rfl)) ((xm_s1_o (o := l2) rfl).trans rfl) ?_
          refine xw_aldo (x := l1) (show xm_Imp g Γ 72 (xi_ald 1 73) from xs_aload_n hΓ dX2_copy_72) rfl ?_
          obtain ⟨a61, ha61, e⟩ := e
          obtain ⟨v62, e1, e⟩ := e
          refine xw_gr1 (o := l1) (show xm_Imp g Γ 73 (xi_get 1 2 76) from xs_get hG hΓ (ci := 1) (kf := 2) rfl (Nat.le_of_ble_eq_true rfl) q279 dX2_copy_73) ha61 e1 ?_
          refine xw_aldo (x := v60.1) (show xm_Imp g Γ 76 (xi_ald 3 77) from xs_aload_n hΓ dX2_copy_76) rfl ?_
          obtain ⟨a63, ha63, e⟩ := e
          obtain ⟨_, e0, e⟩ := e
          obtain ⟨m64, m65, ⟨em1, em2⟩, e⟩ := e
          refine xw_tvu1 (o := v62) (show xm_Imp g Γ 77 (xi_vir g 13 M_J3_addLast 10 1 80) from xs_invV hG hΓ k_J3_addLast rfl (ci := 13) rfl q1456 q1262 q1263 dX2_copy_77) (by simp [xm_stk, xv_cat, xc_int, xc_long, xc_float, xc_double, xc_ref]) ha63 e0 em1 em2 (K_J3_addLast hG a63 v60.1 _ _ _ e) (fun h66 e => ?_)
          refine xw_goto (show xm_Imp g Γ 80 (xi_goto 53) from xs_goto hΓ dX2_copy_80 (by decide)) ?_
          have hq := hk53 _ e; exact xm_lx (hq) (And.intro rfl (And.intro rfl (And.intro rfl (trivial))))
        rw [if_neg cc1] at e
        exact e.elim
    rw [if_neg cc0] at e
    by_cases cc1 : c36 = 16
    · rw [if_pos cc1] at e
      obtain ⟨v68, e1, e⟩ := e
      refine xw_hv0 (o := l2) (xm_or2 (show xm_Imp g Γ 54 (xi_or (xi_vir g 10 M_X12_hasNext 1 0 59) (xi_vir g 16 M_J23_hasNext 1 0 59)) from xs_or (xs_invF hG hΓ k_X12_hasNext rfl (ci := 10) rfl q1395 q1401 q1399 ⟨by decide, by decide⟩ (by decide +kernel) q1397 q1396 q1402 q1400 q1398 dX2_copy_54) (xs_invF hG hΓ k_J23_hasNext rfl (ci := 16) rfl q1395 q1407 q1405 ⟨by decide, by decide⟩ (by decide +kernel) q1397 q1396 q1408 q1406 q1404 dX2_copy_54))) (by simp [xm_stk, xv_cat, xc_int, xc_long, xc_float, xc_double, xc_ref]) ha35 (xh_is_of e0 cc1) (fun Q X hQ => K_J23_hasNext hG a35 _ e1 hQ) ?_
      refine xw_if (show xm_Imp g Γ 59 (xi_if (fun x => x = 0) 83 62) from xs_if_eq hΓ dX2_copy_59 (by decide)) (fun c => ?_) (fun c => ?_)
      · rw [if_pos c] at e
        refine xw_ald (show xm_Imp g Γ 83 (xi_ald 0 84) from xs_aload_n hΓ dX2_copy_83) rfl ?_
        obtain ⟨v69, e1, e⟩ := e
        refine xw_gr1 (o := (some l0)) (show xm_Imp g Γ 84 (xi_get 1 3 87) from xs_get hG hΓ (ci := 1) (kf := 3) rfl (Nat.le_of_ble_eq_true rfl) q281 dX2_copy_84) rfl e1 ?_
        refine xw_psh (v := (.int (0))) (show xm_Imp g Γ 87 (xi_psh (.int (0)) 88) from xs_iconst hΓ dX2_copy_87 (by decide)) ?_
        refine xw_aldo (x := l1) (show xm_Imp g Γ 88 (xi_ald 1 89) from xs_aload_n hΓ dX2_copy_88) rfl ?_
        obtain ⟨a70, ha70, e⟩ := e
        obtain ⟨v71, e1, e⟩ := e
        refine xw_gr1 (o := l1) (show xm_Imp g Γ 89 (xi_get 1 3 92) from xs_get hG hΓ (ci := 1) (kf := 3) rfl (Nat.le_of_ble_eq_true rfl) q281 dX2_copy_89) ha70 e1 ?_
        refine xw_psh (v := (.int (0))) (show xm_Imp g Γ 92 (xi_psh (.int (0)) 93) from xs_iconst hΓ dX2_copy_92 (by decide)) ?_
        refine xw_psh (v := (.int (60))) (show xm_Imp g Γ 93 (xi_psh (.int (60)) 95) from xs_bipush hΓ dX2_copy_93 (by decide)) ?_
        obtain ⟨a72, ha72, e⟩ := e
        obtain ⟨a73, ha73, e⟩ := e
        obtain ⟨h74, e1, e⟩ := e
        refine xw_cpi (o := v69) (o1 := v71) (show xm_Imp g Γ 95 (xi_cpi .int 98) from xs_cpi hG hΓ (ty := .int) rfl rfl q1457 dX2_copy_95) ha72 ha73 rfl e1 ?_
        refine xw_aldo (x := l1) (show xm_Imp g Γ 98 (xi_ald 1 99) from xs_aload_n hΓ dX2_copy_98) rfl ?_
        refine xw_ald (show xm_Imp g Γ 99 (xi_ald 0 100) from xs_aload_n hΓ dX2_copy_99) rfl ?_
        obtain ⟨v75, e1, e⟩ := e
        refine xw_gi1 (o := (some l0)) (show xm_Imp g Γ 100 (xi_get 1 5 103) from xs_get hG hΓ (ci := 1) (kf := 5) rfl (Nat.le_of_ble_eq_true rfl) q285 dX2_copy_100) rfl e1 ?_
        obtain ⟨h76, e1, e⟩ := e
        refine xw_pt1 (o := l1) (show xm_Imp g Γ 103 (xi_put 1 5 (.int) 106) from xs_put hG hΓ (ci := 1) (kf := 5) rfl (Nat.le_of_ble_eq_true rfl) rfl (by decide +kernel) q285 dX2_copy_103) ha70 (xf_int _) e1 ?_
        refine xw_aldo (x := l1) (show xm_Imp g Γ 106 (xi_ald 1 107) from xs_aload_n hΓ dX2_copy_106) rfl ?_
        refine xw_ald (show xm_Imp g Γ 107 (xi_ald 0 108) from xs_aload_n hΓ dX2_copy_107) rfl ?_
        obtain ⟨v77, e1, e⟩ := e
        refine xw_gi1 (o := (some l0)) (show xm_Imp g Γ 108 (xi_get 1 6 111) from xs_get hG hΓ (ci := 1) (kf := 6) rfl (Nat.le_of_ble_eq_true rfl) q287 dX2_copy_108) rfl e1 ?_
        obtain ⟨h78, e1, e⟩ := e
        refine xw_pt1 (o := l1) (show xm_Imp g Γ 111 (xi_put 1 6 (.int) 114) from xs_put hG hΓ (ci := 1) (kf := 6) rfl (Nat.le_of_ble_eq_true rfl) rfl (by decide +kernel) q287 dX2_copy_111) ha70 (xf_int _) e1 ?_
        refine xw_aldo (x := l1) (show xm_Imp g Γ 114 (xi_ald 1 115) from xs_aload_n hΓ dX2_copy_114) rfl ?_
        exact xw_areto (show xm_Imp g Γ 115 (xi_aret _) from xs_areturn hΓ rfl (Or.inl ⟨_, rfl⟩) dX2_copy_115) ⟨_, rfl, e⟩
      · rw [if_neg c] at e
        refine xw_aldo (x := l2) (show xm_Imp g Γ 62 (xi_ald 2 63) from xs_aload_n hΓ dX2_copy_62) rfl ?_
        obtain ⟨c79, e0, e⟩ := e
        by_cases cc0 : c79 = 10
        · rw [if_pos cc0] at e
          obtain ⟨m80, m81, ⟨em1, em2⟩, e⟩ := e
          refine xw_tvr0 (o := l2) (xm_or1 (show xm_Imp g Γ 63 (xi_or (xi_vir g 10 M_X12_next 9 0 68) (xi_vir g 16 M_J23_next 9 0 68)) from xs_or (xs_invF hG hΓ k_X12_next rfl (ci := 10) rfl q1411 q1416 q1414 ⟨by decide, by decide⟩ (by decide +kernel) q1413 q1412 q1417 q1415 q1398 dX2_copy_63) (xs_invF hG hΓ k_J23_next rfl (ci := 16) rfl q1411 q1448 q1446 ⟨by decide, by decide⟩ (by decide +kernel) q1413 q1412 q1449 q1447 q1404 dX2_copy_63))) (by simp [xm_stk, xv_cat, xc_int, xc_long, xc_float, xc_double, xc_ref]) ha35 (xh_is_of e0 cc0) em1 em2 (K_X12_next hG a35 _ _ _ e) (fun v83 h82 e => ?_)
          obtain ⟨_, e1, e⟩ := e
          refine xw_castA (o := v83) (show xm_Imp g Γ 68 (xi_castA (.int) 71) from xs_castB hG hΓ (ty := .int) (by decide +kernel) q1455 dX2_copy_68) e1 ?_
          refine xw_asto (x := v83) (ls' := [some (.ref l0), some (va_rf l1), some (va_rf l2), some (va_rf v83)]) (show xm_Imp g Γ 71 (xi_ast 3 72) from xs_astore_n hΓ dX2_copy_71 (Nat.le_of_ble_eq_true rfl)) ((xm_s1_o (o := l2) rfl).trans rfl) ?_
          refine xw_aldo (x := l1) (show xm_Imp g Γ 72 (xi_ald 1 73) from xs_aload_n hΓ dX2_copy_72) rfl ?_
          obtain ⟨a84, ha84, e⟩ := e
          obtain ⟨v85, e1, e⟩ := e
          refine xw_gr1 (o := l1) (show xm_Imp g Γ 73 (xi_get 1 2 76) from xs_get hG hΓ (ci := 1) (kf := 2) rfl (Nat.le_of_ble_eq_true rfl) q279 dX2_copy_73) ha84 e1 ?_
          refine xw_aldo (x := v83) (show xm_Imp g Γ 76 (xi_ald 3 77) from xs_aload_n hΓ dX2_copy_76) rfl ?_
          obtain ⟨a86, ha86, e⟩ := e
          obtain ⟨_, e0, e⟩ := e
          obtain ⟨m87, m88, ⟨em1, em2⟩, e⟩ := e
          refine xw_tvu1 (o := v85) (show xm_Imp g Γ 77 (xi_vir g 13 M_J3_addLast 10 1 80) from xs_invV hG hΓ k_J3_addLast rfl (ci := 13) rfl q1456 q1262 q1263 dX2_copy_77) (by simp [xm_stk, xv_cat, xc_int, xc_long, xc_float, xc_double, xc_ref]) ha86 e0 em1 em2 (K_J3_addLast hG a86 v83 _ _ _ e) (fun h89 e => ?_)
          refine xw_goto (show xm_Imp g Γ 80 (xi_goto 53) from xs_goto hΓ dX2_copy_80 (by decide)) ?_
          have hq := hk53 _ e; exact xm_lx (hq) (And.intro rfl (And.intro rfl (And.intro rfl (trivial))))
        rw [if_neg cc0] at e
        by_cases cc1 : c79 = 16
        · rw [if_pos cc1] at e
          obtain ⟨v91, e1, e⟩ := e
          refine xw_hv0 (o := l2) (xm_or2 (show xm_Imp g Γ 63 (xi_or (xi_vir g 10 M_X12_next 9 0 68) (xi_vir g 16 M_J23_next 9 0 68)) from xs_or (xs_invF hG hΓ k_X12_next rfl (ci := 10) rfl q1411 q1416 q1414 ⟨by decide, by decide⟩ (by decide +kernel) q1413 q1412 q1417 q1415 q1398 dX2_copy_63) (xs_invF hG hΓ k_J23_next rfl (ci := 16) rfl q1411 q1448 q1446 ⟨by decide, by decide⟩ (by decide +kernel) q1413 q1412 q1449 q1447 q1404 dX2_copy_63))) (by simp [xm_stk, xv_cat, xc_int, xc_long, xc_float, xc_double, xc_ref]) ha35 (xh_is_of e0 cc1) (fun Q X hQ => K_J23_next hG a35 _ e1 hQ) ?_
          obtain ⟨_, e1, e⟩ := e
          refine xw_castA (o := v91.1) (show xm_Imp g Γ 68 (xi_castA (.int) 71) from xs_castB hG hΓ (ty := .int) (by decide +kernel) q1455 dX2_copy_68) e1 ?_
          refine xw_asto (x := v91.1) (ls' := [some (.ref l0), some (va_rf l1), some (va_rf l2), some (va_rf v91.1)]) (show xm_Imp g Γ 71 (xi_ast 3 72) from xs_astore_n hΓ dX2_copy_71 (Nat.le_of_ble_eq_true rfl)) ((xm_s1_o (o := l2) rfl).trans rfl) ?_
          refine xw_aldo (x := l1) (show xm_Imp g Γ 72 (xi_ald 1 73) from xs_aload_n hΓ dX2_copy_72) rfl ?_
          obtain ⟨a92, ha92, e⟩ := e
          obtain ⟨v93, e1, e⟩ := e
          refine xw_gr1 (o := l1) (show xm_Imp g Γ 73 (xi_get 1 2 76) from xs_get hG hΓ (ci := 1) (kf := 2) rfl (Nat.le_of_ble_eq_true rfl) q279 dX2_copy_73) ha92 e1 ?_
          refine xw_aldo (x := v91.1) (show xm_Imp g Γ 76 (xi_ald 3 77) from xs_aload_n hΓ dX2_copy_76) rfl ?_
          obtain ⟨a94, ha94, e⟩ := e
          obtain ⟨_, e0, e⟩ := e
          obtain ⟨m95, m96, ⟨em1, em2⟩, e⟩ := e
          refine xw_tvu1 (o := v93) (show xm_Imp g Γ 77 (xi_vir g 13 M_J3_addLast 10 1 80) from xs_invV hG hΓ k_J3_addLast rfl (ci := 13) rfl q1456 q1262 q1263 dX2_copy_77) (by simp [xm_stk, xv_cat, xc_int, xc_long, xc_float, xc_double, xc_ref]) ha94 e0 em1 em2 (K_J3_addLast hG a94 v91.1 _ _ _ e) (fun h97 e => ?_)
          refine xw_goto (show xm_Imp g Γ 80 (xi_goto 53) from xs_goto hΓ dX2_copy_80 (by decide)) ?_
          have hq := hk53 _ e; exact xm_lx (hq) (And.intro rfl (And.intro rfl (And.intro rfl (trivial))))
        rw [if_neg cc1] at e
        exact e.elim
    rw [if_neg cc1] at e
    exact e.elim
  unfold F_X2_copy at e
  refine xw_new (show xm_Imp g Γ 0 (xi_new 1 7 [.null, .null, .null, .null, .int 0, .int 0, .int 0] 3) from xs_new hG hΓ (ci := 1) rfl q1297 q182 q121 rfl tyX2 tyX2_ok (xm_df 7 (by decide +kernel)) dX2_copy_0) e (fun a1 h2 b3 b4 e => ?_)
  refine xw_dup (show xm_Imp g Γ 3 (xi_dup 4) from xs_dup hΓ dX2_copy_3) rfl ?_
  refine xw_ald (show xm_Imp g Γ 4 (xi_ald 0 5) from xs_aload_n hΓ dX2_copy_4) rfl ?_
  obtain ⟨v5, e1, e⟩ := e
  refine xw_gr1 (o := (some p0)) (show xm_Imp g Γ 5 (xi_get 1 0 8) from xs_get hG hΓ (ci := 1) (kf := 0) rfl (Nat.le_of_ble_eq_true rfl) q275 dX2_copy_5) rfl e1 ?_
  obtain ⟨a6, ha6, e⟩ := e
  obtain ⟨v7, e1, e⟩ := e
  refine xw_gr1 (o := v5) (show xm_Imp g Γ 8 (xi_get 2 0 11) from xs_getN hG hΓ (ci := 2) (kf := 0) rfl (Nat.le_of_ble_eq_true rfl) q269 dX2_copy_8) ha6 e1 ?_
  obtain ⟨a8, ha8, e⟩ := e
  obtain ⟨v9, e1, e⟩ := e
  refine xw_hlen (o := v7) (show xm_Imp g Γ 11 (xi_len 12) from xs_len hG hΓ dX2_copy_11) ha8 e1 ?_
  refine xw_ald (show xm_Imp g Γ 12 (xi_ald 0 13) from xs_aload_n hΓ dX2_copy_12) rfl ?_
  obtain ⟨v10, e1, e⟩ := e
  refine xw_gi1 (o := (some p0)) (show xm_Imp g Γ 13 (xi_get 1 4 16) from xs_get hG hΓ (ci := 1) (kf := 4) rfl (Nat.le_of_ble_eq_true rfl) q284 dX2_copy_13) rfl e1 ?_
  obtain ⟨m11, m12, ⟨em1, em2⟩, e⟩ := e
  refine xw_tpu2 (o := (some a1)) (show xm_Imp g Γ 16 (xi_spe g M_X2_init 5 2 19) from xs_invI hG hΓ k_X2_init rfl q1298 q184 rfl dX2_copy_16) rfl rfl em1 em2 (K_X2_init hG a1 v9 v10 _ _ _ e) (fun h13 e => ?_)
  refine xw_ast (ls' := [some (.ref p0), some (.ref a1), none, none]) (show xm_Imp g Γ 19 (xi_ast 1 20) from xs_astore_n hΓ dX2_copy_19 (Nat.le_of_ble_eq_true rfl)) rfl ?_
  refine xw_ald (show xm_Imp g Γ 20 (xi_ald 1 21) from xs_aload_n hΓ dX2_copy_20) rfl ?_
  refine xw_ald (show xm_Imp g Γ 21 (xi_ald 0 22) from xs_aload_n hΓ dX2_copy_21) rfl ?_
  obtain ⟨v15, e1, e⟩ := e
  refine xw_gr1 (o := (some p0)) (show xm_Imp g Γ 22 (xi_get 1 0 25) from xs_get hG hΓ (ci := 1) (kf := 0) rfl (Nat.le_of_ble_eq_true rfl) q275 dX2_copy_22) rfl e1 ?_
  obtain ⟨a16, ha16, e⟩ := e
  obtain ⟨_, e0, e⟩ := e
  obtain ⟨m17, m18, ⟨em1, em2⟩, e⟩ := e
  refine xw_tvr0 (o := v15) (show xm_Imp g Γ 25 (xi_vir g 2 M_X3_copy 4 0 28) from xs_invV hG hΓ k_X3_copy rfl (ci := 2) rfl q1299 q1300 q1301 dX2_copy_25) (by simp [xm_stk, xv_cat, xc_int, xc_long, xc_float, xc_double, xc_ref]) ha16 e0 em1 em2 (K_X3_copy hG a16 _ _ _ e) (fun v20 h19 e => ?_)
  obtain ⟨h21, e1, e⟩ := e
  refine xw_pt1 (o := (some a1)) (show xm_Imp g Γ 28 (xi_put 1 0 (.object "StringTableau$Tableau") 31) from xs_put hG hΓ (ci := 1) (kf := 0) rfl (Nat.le_of_ble_eq_true rfl) rfl (by decide +kernel) q275 dX2_copy_28) rfl (xv_fit (Or.inl ⟨_, rfl⟩) v20) e1 ?_
  refine xw_ald (show xm_Imp g Γ 31 (xi_ald 1 32) from xs_aload_n hΓ dX2_copy_31) rfl ?_
  obtain ⟨v22, e1, e⟩ := e
  refine xw_gr1 (o := (some a1)) (show xm_Imp g Γ 32 (xi_get 1 1 35) from xs_get hG hΓ (ci := 1) (kf := 1) rfl (Nat.le_of_ble_eq_true rfl) q277 dX2_copy_32) rfl e1 ?_
  refine xw_ald (show xm_Imp g Γ 35 (xi_ald 0 36) from xs_aload_n hΓ dX2_copy_35) rfl ?_
  obtain ⟨v23, e1, e⟩ := e
  refine xw_gr1 (o := (some p0)) (show xm_Imp g Γ 36 (xi_get 1 1 39) from xs_get hG hΓ (ci := 1) (kf := 1) rfl (Nat.le_of_ble_eq_true rfl) q277 dX2_copy_36) rfl e1 ?_
  obtain ⟨a24, ha24, e⟩ := e
  obtain ⟨_, e0, e⟩ := e
  obtain ⟨m25, m26, ⟨em1, em2⟩, e⟩ := e
  refine xw_tvi1 (o := v22) (show xm_Imp g Γ 39 (xi_vir g 12 M_J2_addAll 9 1 44) from xs_invF hG hΓ k_J2_addAll rfl (ci := 12) rfl q1312 q1317 q1315 ⟨by decide, by decide⟩ (by decide +kernel) q1314 q1313 q1318 q1316 q903 dX2_copy_39) (by simp [xm_stk, xv_cat, xc_int, xc_long, xc_float, xc_double, xc_ref]) ha24 e0 em1 em2 (K_J2_addAll hG a24 v23 _ _ _ e) (fun v28 h27 e => ?_)
  refine xw_pop (show xm_Imp g Γ 44 (xi_pop 45) from xs_pop hΓ dX2_copy_44) rfl ?_
  refine xw_ald (show xm_Imp g Γ 45 (xi_ald 0 46) from xs_aload_n hΓ dX2_copy_45) rfl ?_
  obtain ⟨v29, e1, e⟩ := e
  refine xw_gr1 (o := (some p0)) (show xm_Imp g Γ 46 (xi_get 1 2 49) from xs_get hG hΓ (ci := 1) (kf := 2) rfl (Nat.le_of_ble_eq_true rfl) q279 dX2_copy_46) rfl e1 ?_
  obtain ⟨a30, ha30, e⟩ := e
  obtain ⟨_, e0, e⟩ := e
  obtain ⟨m31, m32, ⟨em1, em2⟩, e⟩ := e
  refine xw_tvr0 (o := v29) (show xm_Imp g Γ 49 (xi_vir g 13 M_J3_iterator 4 0 52) from xs_invV hG hΓ k_J3_iterator rfl (ci := 13) rfl q1370 q1371 q1372 dX2_copy_49) (by simp [xm_stk, xv_cat, xc_int, xc_long, xc_float, xc_double, xc_ref]) ha30 e0 em1 em2 (K_J3_iterator hG a30 _ _ _ e) (fun v34 h33 e => ?_)
  refine xw_asto (x := v34) (ls' := [some (.ref p0), some (.ref a1), some (va_rf v34), none]) (show xm_Imp g Γ 52 (xi_ast 2 53) from xs_astore_n hΓ dX2_copy_52 (Nat.le_of_ble_eq_true rfl)) rfl ?_
  exact hL_53 _ _ _ _ e
