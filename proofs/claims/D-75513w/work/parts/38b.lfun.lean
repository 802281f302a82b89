/-! METHODS OF LAMBDAS as functions (printed by gen/mkhfun.py) -/
set_option maxRecDepth 100000
def F_X1_has (p0 : Int32) (p1 : Int32) : Int32 :=
 (if ((p0 >>> (p1 &&& 31)) &&& 1) = 1 then
 1 else
 0)
set_option maxHeartbeats 4000000 in
theorem K_X1_has {g : xm_G} (hG : xm_Gw g) {h : xm_H} (p0 : Int32) (p1 : Int32) {o : Int32} (e : F_X1_has p0 p1 = o) {Q : xm_P} {X : xm_X} (hQ : Q (some (.int o)) h) : xm_Run g M_X1_has 1 [.int p0, .int p1] h 0 0 Q X := by
  refine xm_Run.of pn_StringTableau (Nat.le_of_ble_eq_true rfl) (fun Γ hΓ => ?_)
  obtain ⟨P0, hP0, hp⟩ : ∃ P : Int32 → Prop, (∀ o, P o → Q (some (.int o)) h) ∧ P o := ⟨fun o => Q (some (.int o)) h, fun _ h => h, hQ⟩
  clear hQ
  show xm_W g Γ 0 [some (.int p0), some (.int p1)] [] h 0 0
  unfold F_X1_has at e
  refine xw_ild (show xm_Imp g Γ 0 (xi_ild 0 1) from xs_iload_n hΓ dX1_has_0) rfl ?_
  refine xw_ild (show xm_Imp g Γ 1 (xi_ild 1 2) from xs_iload_n hΓ dX1_has_1) rfl ?_
  refine xw_ii (show xm_Imp g Γ 2 (xi_ii (fun x y => x >>> (y &&& 31)) 3) from xs_ishr hΓ dX1_has_2) ?_
  refine xw_psh (v := (.int (1))) (show xm_Imp g Γ 3 (xi_psh (.int (1)) 4) from xs_iconst hΓ dX1_has_3 (by decide)) ?_
  refine xw_ii (show xm_Imp g Γ 4 (xi_ii (fun x y => x &&& y) 5) from xs_iand hΓ dX1_has_4) ?_
  refine xw_psh (v := (.int (1))) (show xm_Imp g Γ 5 (xi_psh (.int (1)) 6) from xs_iconst hΓ dX1_has_5 (by decide)) ?_
  refine xw_ic (show xm_Imp g Γ 6 (xi_ic (fun x y => x = y) 9 13) from xs_icmp_ne hΓ dX1_has_6 (by decide)) (fun c => ?_) (fun c => ?_)
  · rw [if_pos c] at e
    refine xw_psh (v := (.int (1))) (show xm_Imp g Γ 9 (xi_psh (.int (1)) 10) from xs_iconst hΓ dX1_has_9 (by decide)) ?_
    refine xw_goto (show xm_Imp g Γ 10 (xi_goto 14) from xs_goto hΓ dX1_has_10 (by decide)) ?_
    exact xw_iret (show xm_Imp g Γ 14 (xi_iret .boolean _) from xs_ireturn hΓ rfl dX1_has_14) rfl (hP0 _ (xl_finV e hp))
  · rw [if_neg c] at e
    refine xw_psh (v := (.int (0))) (show xm_Imp g Γ 13 (xi_psh (.int (0)) 14) from xs_iconst hΓ dX1_has_13 (by decide)) ?_
    exact xw_iret (show xm_Imp g Γ 14 (xi_iret .boolean _) from xs_ireturn hΓ rfl dX1_has_14) rfl (hP0 _ (xl_finV e hp))
theorem b_X1_has (p0 : Int32) (p1 : Int32) : narrow .boolean (.int (F_X1_has p0 p1)) = .int (F_X1_has p0 p1) := by
  unfold F_X1_has
  (repeat' split) <;> first | with_reducible exact xb_n0 | with_reducible exact xb_n1
noncomputable def F_X4_hasX (g : xm_G) (p0 : Nat) (p1 : Int32) (h : xm_H) : Option (Int32) :=
 xo_b (xh_fi [(3, 0)] h p0) (fun v1 =>
 some (F_X1_has v1 p1))
set_option maxHeartbeats 4000000 in
theorem K_X4_hasX {g : xm_G} (hG : xm_Gw g) (p0 : Nat) (p1 : Int32) (h : xm_H) {o : Int32} (e : F_X4_hasX g p0 p1 h = some o) {Q : xm_P} {X : xm_X} (hQ : Q (some (.int o)) h) : xm_Run g M_X4_hasX 2 [.ref p0, .int p1] h 0 0 Q X := by
  refine xm_Run.of pn_StringTableau_Row (Nat.le_of_ble_eq_true rfl) (fun Γ hΓ => ?_)
  obtain ⟨P0, hP0, hp⟩ : ∃ P : Int32 → Prop, (∀ o, P o → Q (some (.int o)) h) ∧ P o := ⟨fun o => Q (some (.int o)) h, fun _ h => h, hQ⟩
  clear hQ
  show xm_W g Γ 0 [some (.ref p0), some (.int p1)] [] h 0 0
  unfold F_X4_hasX at e
  refine xw_ald (show xm_Imp g Γ 0 (xi_ald 0 1) from xs_aload_n hΓ dX4_hasX_0) rfl ?_
  obtain ⟨v1, e1, e⟩ := xo_b_s e
  refine xw_gi1 (o := (some p0)) (show xm_Imp g Γ 1 (xi_get 3 0 4) from xs_get hG hΓ (ci := 3) (kf := 0) rfl (Nat.le_of_ble_eq_true rfl) q246 dX4_hasX_1) rfl e1 ?_
  refine xw_ild (show xm_Imp g Γ 4 (xi_ild 1 5) from xs_iload_n hΓ dX4_hasX_4) rfl ?_
  refine xw_sv2 (show xm_Imp g Γ 5 (xi_inv g M_X1_has 1 2 8) from xs_invSN hG hΓ k_X1_has rfl q1493 q1224 dX4_hasX_5) rfl (fun Q X hQ => K_X1_has hG v1 p1 rfl hQ) ?_
  have hq := hP0 _ (xl_fin e hp)
  exact xw_iret (show xm_Imp g Γ 8 (xi_iret .boolean _) from xs_ireturn hΓ rfl dX4_hasX_8) (b_X1_has v1 p1) hq
noncomputable def F_X4_hasZ (g : xm_G) (p0 : Nat) (p1 : Int32) (h : xm_H) : Option (Int32) :=
 xo_b (xh_fi [(3, 1)] h p0) (fun v1 =>
 some (F_X1_has v1 p1))
set_option maxHeartbeats 4000000 in
theorem K_X4_hasZ {g : xm_G} (hG : xm_Gw g) (p0 : Nat) (p1 : Int32) (h : xm_H) {o : Int32} (e : F_X4_hasZ g p0 p1 h = some o) {Q : xm_P} {X : xm_X} (hQ : Q (some (.int o)) h) : xm_Run g M_X4_hasZ 2 [.ref p0, .int p1] h 0 0 Q X := by
  refine xm_Run.of pn_StringTableau_Row (Nat.le_of_ble_eq_true rfl) (fun Γ hΓ => ?_)
  obtain ⟨P0, hP0, hp⟩ : ∃ P : Int32 → Prop, (∀ o, P o → Q (some (.int o)) h) ∧ P o := ⟨fun o => Q (some (.int o)) h, fun _ h => h, hQ⟩
  clear hQ
  show xm_W g Γ 0 [some (.ref p0), some (.int p1)] [] h 0 0
  unfold F_X4_hasZ at e
  refine xw_ald (show xm_Imp g Γ 0 (xi_ald 0 1) from xs_aload_n hΓ dX4_hasZ_0) rfl ?_
  obtain ⟨v1, e1, e⟩ := xo_b_s e
  refine xw_gi1 (o := (some p0)) (show xm_Imp g Γ 1 (xi_get 3 1 4) from xs_get hG hΓ (ci := 3) (kf := 1) rfl (Nat.le_of_ble_eq_true rfl) q251 dX4_hasZ_1) rfl e1 ?_
  refine xw_ild (show xm_Imp g Γ 4 (xi_ild 1 5) from xs_iload_n hΓ dX4_hasZ_4) rfl ?_
  refine xw_sv2 (show xm_Imp g Γ 5 (xi_inv g M_X1_has 1 2 8) from xs_invSN hG hΓ k_X1_has rfl q1493 q1224 dX4_hasZ_5) rfl (fun Q X hQ => K_X1_has hG v1 p1 rfl hQ) ?_
  have hq := hP0 _ (xl_fin e hp)
  exact xw_iret (show xm_Imp g Γ 8 (xi_iret .boolean _) from xs_ireturn hΓ rfl dX4_hasZ_8) (b_X1_has v1 p1) hq
noncomputable def F_X4_flipIf (g : xm_G) (p0 : Nat) (p1 : Int32) (h : xm_H) : Option (xm_H) :=
 xo_b (xh_fi [(3, 2)] h p0) (fun v1 =>
 xo_b (xo_g (narrow .boolean (.int (v1 ^^^ p1)) = .int (v1 ^^^ p1) ∧ fits .boolean (.int (v1 ^^^ p1)) = true)) (fun _ =>
 xo_b (xh_w [(3, 2)] h p0 (.int (v1 ^^^ p1))) (fun h2 =>
 some h2)))
set_option maxHeartbeats 4000000 in
theorem K_X4_flipIf {g : xm_G} (hG : xm_Gw g) (p0 : Nat) (p1 : Int32) (h : xm_H) {o : xm_H} (e : F_X4_flipIf g p0 p1 h = some o) {Q : xm_P} {X : xm_X} (hQ : Q none o) : xm_Run g M_X4_flipIf 1 [.ref p0, .int p1] h 0 0 Q X := by
  refine xm_Run.of pn_StringTableau_Row (Nat.le_of_ble_eq_true rfl) (fun Γ hΓ => ?_)
  obtain ⟨P0, hP0, hp⟩ : ∃ P : xm_H → Prop, (∀ o, P o → Q none o) ∧ P o := ⟨fun o => Q none o, fun _ h => h, hQ⟩
  clear hQ
  show xm_W g Γ 0 [some (.ref p0), some (.int p1)] [] h 0 0
  unfold F_X4_flipIf at e
  refine xw_ald (show xm_Imp g Γ 0 (xi_ald 0 1) from xs_aload_n hΓ dX4_flipIf_0) rfl ?_
  refine xw_dup (show xm_Imp g Γ 1 (xi_dup 2) from xs_dup hΓ dX4_flipIf_1) rfl ?_
  obtain ⟨v1, e1, e⟩ := xo_b_s e
  refine xw_gi1 (o := (some p0)) (show xm_Imp g Γ 2 (xi_get 3 2 5) from xs_get hG hΓ (ci := 3) (kf := 2) rfl (Nat.le_of_ble_eq_true rfl) q256 dX4_flipIf_2) rfl e1 ?_
  refine xw_ild (show xm_Imp g Γ 5 (xi_ild 1 6) from xs_iload_n hΓ dX4_flipIf_5) rfl ?_
  refine xw_ii (show xm_Imp g Γ 6 (xi_ii (fun x y => x ^^^ y) 7) from xs_ixor hΓ dX4_flipIf_6) ?_
  obtain ⟨_, en, e⟩ := xo_b_s e
  obtain ⟨h2, e1, e⟩ := xo_b_s e
  refine xw_pt1 (o := (some p0)) (show xm_Imp g Γ 7 (xi_put 3 2 (.boolean) 10) from xs_put hG hΓ (ci := 3) (kf := 2) rfl (Nat.le_of_ble_eq_true rfl) rfl (by decide +kernel) q256 dX4_flipIf_7) rfl (xo_g_s en) e1 ?_
  exact xw_vret (show xm_Imp g Γ 10 (xi_vret _) from xs_return hΓ rfl dX4_flipIf_10) (hP0 _ (xl_fin e hp))
noncomputable def F_X4_flipX (g : xm_G) (p0 : Nat) (p1 : Int32) (p2 : Int32) (h : xm_H) : Option (xm_H) :=
 (if p2 = 0 then
 some h else
 xo_b (xh_fi [(3, 0)] h p0) (fun v1 =>
 xo_b (xh_w [(3, 0)] h p0 (.int (v1 ^^^ (1 <<< (p1 &&& 31))))) (fun h2 =>
 some h2)))
set_option maxHeartbeats 4000000 in
theorem K_X4_flipX {g : xm_G} (hG : xm_Gw g) (p0 : Nat) (p1 : Int32) (p2 : Int32) (h : xm_H) {o : xm_H} (e : F_X4_flipX g p0 p1 p2 h = some o) {Q : xm_P} {X : xm_X} (hQ : Q none o) : xm_Run g M_X4_flipX 1 [.ref p0, .int p1, .int p2] h 0 0 Q X := by
  refine xm_Run.of pn_StringTableau_Row (Nat.le_of_ble_eq_true rfl) (fun Γ hΓ => ?_)
  obtain ⟨P0, hP0, hp⟩ : ∃ P : xm_H → Prop, (∀ o, P o → Q none o) ∧ P o := ⟨fun o => Q none o, fun _ h => h, hQ⟩
  clear hQ
  show xm_W g Γ 0 [some (.ref p0), some (.int p1), some (.int p2)] [] h 0 0
  unfold F_X4_flipX at e
  refine xw_ild (show xm_Imp g Γ 0 (xi_ild 2 1) from xs_iload_n hΓ dX4_flipX_0) rfl ?_
  refine xw_if (show xm_Imp g Γ 1 (xi_if (fun x => x = 0) 16 4) from xs_if_eq hΓ dX4_flipX_1 (by decide)) (fun c => ?_) (fun c => ?_)
  · rw [if_pos c] at e
    exact xw_vret (show xm_Imp g Γ 16 (xi_vret _) from xs_return hΓ rfl dX4_flipX_16) (hP0 _ (xl_fin e hp))
  · rw [if_neg c] at e
    refine xw_ald (show xm_Imp g Γ 4 (xi_ald 0 5) from xs_aload_n hΓ dX4_flipX_4) rfl ?_
    refine xw_dup (show xm_Imp g Γ 5 (xi_dup 6) from xs_dup hΓ dX4_flipX_5) rfl ?_
    obtain ⟨v1, e1, e⟩ := xo_b_s e
    refine xw_gi1 (o := (some p0)) (show xm_Imp g Γ 6 (xi_get 3 0 9) from xs_get hG hΓ (ci := 3) (kf := 0) rfl (Nat.le_of_ble_eq_true rfl) q246 dX4_flipX_6) rfl e1 ?_
    refine xw_psh (v := (.int (1))) (show xm_Imp g Γ 9 (xi_psh (.int (1)) 10) from xs_iconst hΓ dX4_flipX_9 (by decide)) ?_
    refine xw_ild (show xm_Imp g Γ 10 (xi_ild 1 11) from xs_iload_n hΓ dX4_flipX_10) rfl ?_
    refine xw_ii (show xm_Imp g Γ 11 (xi_ii (fun x y => x <<< (y &&& 31)) 12) from xs_ishl hΓ dX4_flipX_11) ?_
    refine xw_ii (show xm_Imp g Γ 12 (xi_ii (fun x y => x ^^^ y) 13) from xs_ixor hΓ dX4_flipX_12) ?_
    obtain ⟨h2, e1, e⟩ := xo_b_s e
    refine xw_pt1 (o := (some p0)) (show xm_Imp g Γ 13 (xi_put 3 0 (.int) 16) from xs_put hG hΓ (ci := 3) (kf := 0) rfl (Nat.le_of_ble_eq_true rfl) rfl (by decide +kernel) q246 dX4_flipX_13) rfl (xf_int _) e1 ?_
    exact xw_vret (show xm_Imp g Γ 16 (xi_vret _) from xs_return hΓ rfl dX4_flipX_16) (hP0 _ (xl_fin e hp))
noncomputable def F_X4_flipZ (g : xm_G) (p0 : Nat) (p1 : Int32) (p2 : Int32) (h : xm_H) : Option (xm_H) :=
 (if p2 = 0 then
 some h else
 xo_b (xh_fi [(3, 1)] h p0) (fun v1 =>
 xo_b (xh_w [(3, 1)] h p0 (.int (v1 ^^^ (1 <<< (p1 &&& 31))))) (fun h2 =>
 some h2)))
set_option maxHeartbeats 4000000 in
theorem K_X4_flipZ {g : xm_G} (hG : xm_Gw g) (p0 : Nat) (p1 : Int32) (p2 : Int32) (h : xm_H) {o : xm_H} (e : F_X4_flipZ g p0 p1 p2 h = some o) {Q : xm_P} {X : xm_X} (hQ : Q none o) : xm_Run g M_X4_flipZ 1 [.ref p0, .int p1, .int p2] h 0 0 Q X := by
  refine xm_Run.of pn_StringTableau_Row (Nat.le_of_ble_eq_true rfl) (fun Γ hΓ => ?_)
  obtain ⟨P0, hP0, hp⟩ : ∃ P : xm_H → Prop, (∀ o, P o → Q none o) ∧ P o := ⟨fun o => Q none o, fun _ h => h, hQ⟩
  clear hQ
  show xm_W g Γ 0 [some (.ref p0), some (.int p1), some (.int p2)] [] h 0 0
  unfold F_X4_flipZ at e
  refine xw_ild (show xm_Imp g Γ 0 (xi_ild 2 1) from xs_iload_n hΓ dX4_flipZ_0) rfl ?_
  refine xw_if (show xm_Imp g Γ 1 (xi_if (fun x => x = 0) 16 4) from xs_if_eq hΓ dX4_flipZ_1 (by decide)) (fun c => ?_) (fun c => ?_)
  · rw [if_pos c] at e
    exact xw_vret (show xm_Imp g Γ 16 (xi_vret _) from xs_return hΓ rfl dX4_flipZ_16) (hP0 _ (xl_fin e hp))
  · rw [if_neg c] at e
    refine xw_ald (show xm_Imp g Γ 4 (xi_ald 0 5) from xs_aload_n hΓ dX4_flipZ_4) rfl ?_
    refine xw_dup (show xm_Imp g Γ 5 (xi_dup 6) from xs_dup hΓ dX4_flipZ_5) rfl ?_
    obtain ⟨v1, e1, e⟩ := xo_b_s e
    refine xw_gi1 (o := (some p0)) (show xm_Imp g Γ 6 (xi_get 3 1 9) from xs_get hG hΓ (ci := 3) (kf := 1) rfl (Nat.le_of_ble_eq_true rfl) q251 dX4_flipZ_6) rfl e1 ?_
    refine xw_psh (v := (.int (1))) (show xm_Imp g Γ 9 (xi_psh (.int (1)) 10) from xs_iconst hΓ dX4_flipZ_9 (by decide)) ?_
    refine xw_ild (show xm_Imp g Γ 10 (xi_ild 1 11) from xs_iload_n hΓ dX4_flipZ_10) rfl ?_
    refine xw_ii (show xm_Imp g Γ 11 (xi_ii (fun x y => x <<< (y &&& 31)) 12) from xs_ishl hΓ dX4_flipZ_11) ?_
    refine xw_ii (show xm_Imp g Γ 12 (xi_ii (fun x y => x ^^^ y) 13) from xs_ixor hΓ dX4_flipZ_12) ?_
    obtain ⟨h2, e1, e⟩ := xo_b_s e
    refine xw_pt1 (o := (some p0)) (show xm_Imp g Γ 13 (xi_put 3 1 (.int) 16) from xs_put hG hΓ (ci := 3) (kf := 1) rfl (Nat.le_of_ble_eq_true rfl) rfl (by decide +kernel) q251 dX4_flipZ_13) rfl (xf_int _) e1 ?_
    exact xw_vret (show xm_Imp g Γ 16 (xi_vret _) from xs_return hΓ rfl dX4_flipZ_16) (hP0 _ (xl_fin e hp))
noncomputable def B_X4_h_56 (g : xm_G) (s0 : Option Nat) (s1 : Int32) (s2 : Int32) (h : xm_H) : Option (xm_H) :=
 xo_b s0 (fun a7 =>
 xo_b (xh_is 3 h a7) (fun _ =>
 xo_b (F_X4_flipZ g a7 s1 s2 h) (fun v8 =>
 some v8)))
noncomputable def B_X4_h_41 (g : xm_G) (l0 : Nat) (l1 : Int32) (l2 : Int32) (l3 : Int32) (s0 : Option Nat) (s1 : Int32) (s2 : Int32) (h : xm_H) : Option (xm_H) :=
 xo_b s0 (fun a5 =>
 xo_b (xh_is 3 h a5) (fun _ =>
 xo_b (F_X4_flipX g a5 s1 s2 h) (fun v6 =>
 B_X4_h_56 g (some l0) l1 (if l2 = l3 then 0 else 1) v6)))
noncomputable def B_X4_h_26 (g : xm_G) (l0 : Nat) (l1 : Int32) (l2 : Int32) (l3 : Int32) (s0 : Option Nat) (s1 : Int32) (h : xm_H) : Option (xm_H) :=
 xo_b s0 (fun a3 =>
 xo_b (xh_is 3 h a3) (fun _ =>
 xo_b (F_X4_flipIf g a3 s1 h) (fun v4 =>
 B_X4_h_41 g l0 l1 l2 l3 (some l0) l1 (if l2 = l3 then 0 else 1) v4)))
noncomputable def F_X4_h (g : xm_G) (p0 : Nat) (p1 : Int32) (h : xm_H) : Option (xm_H) :=
 xo_b (xh_is 3 h p0) (fun _ =>
 xo_b (F_X4_hasX g p0 p1 h) (fun v1 =>
 xo_b (xh_is 3 h p0) (fun _ =>
 xo_b (F_X4_hasZ g p0 p1 h) (fun v2 =>
 B_X4_h_26 g p0 p1 v1 v2 (some p0) (if v1 = 0 then 0 else (if v2 = 0 then 0 else 1)) h))))
set_option maxHeartbeats 4000000 in
theorem K_X4_h {g : xm_G} (hG : xm_Gw g) (p0 : Nat) (p1 : Int32) (h : xm_H) {o : xm_H} (e : F_X4_h g p0 p1 h = some o) {Q : xm_P} {X : xm_X} (hQ : Q none o) : xm_Run g M_X4_h 3 [.ref p0, .int p1] h 0 0 Q X := by
  refine xm_Run.of pn_StringTableau_Row (Nat.le_of_ble_eq_true rfl) (fun Γ hΓ => ?_)
  obtain ⟨P0, hP0, hp⟩ : ∃ P : xm_H → Prop, (∀ o, P o → Q none o) ∧ P o := ⟨fun o => Q none o, fun _ h => h, hQ⟩
  clear hQ
  show xm_W g Γ 0 [some (.ref p0), some (.int p1), none, none] [] h 0 0
  have hB_56 : ∀ (s0 : Option Nat) (s1 : Int32) (s2 : Int32) (h : xm_H) (o : xm_H), B_X4_h_56 g s0 s1 s2 h = some o → P0 o → xm_W g Γ 56 [none, none, none, none] [.int s2, .int s1, va_rf s0] h 0 0 := by
    intro s0 s1 s2 h o e hp
    unfold B_X4_h_56 at e
    obtain ⟨a7, ha7, e⟩ := xo_b_s e
    obtain ⟨_, e0, e⟩ := xo_b_s e
    obtain ⟨v8, e1, e⟩ := xo_b_s e
    refine xw_hu2 (o := s0) (show xm_Imp g Γ 56 (xi_vir g 3 M_X4_flipZ 1 2 59) from xs_invV hG hΓ k_X4_flipZ rfl (ci := 3) rfl q1506 q1508 qs31 dX4_h_56) (by simp [xm_stk, xv_cat, xc_int, xc_long, xc_float, xc_double, xc_ref]) ha7 e0 (fun Q X hQ => K_X4_flipZ hG a7 s1 s2 _ e1 hQ) ?_
    exact xw_vret (show xm_Imp g Γ 59 (xi_vret _) from xs_return hΓ rfl dX4_h_59) (hP0 _ (xl_fin e hp))
  have hB_41 : ∀ (l0 : Nat) (l1 : Int32) (l2 : Int32) (l3 : Int32) (s0 : Option Nat) (s1 : Int32) (s2 : Int32) (h : xm_H) (o : xm_H), B_X4_h_41 g l0 l1 l2 l3 s0 s1 s2 h = some o → P0 o → xm_W g Γ 41 [some (.ref l0), some (.int l1), some (.int l2), some (.int l3)] [.int s2, .int s1, va_rf s0] h 0 0 := by
    intro l0 l1 l2 l3 s0 s1 s2 h o e hp
    unfold B_X4_h_41 at e
    obtain ⟨a5, ha5, e⟩ := xo_b_s e
    obtain ⟨_, e0, e⟩ := xo_b_s e
    obtain ⟨v6, e1, e⟩ := xo_b_s e
    refine xw_hu2 (o := s0) (show xm_Imp g Γ 41 (xi_vir g 3 M_X4_flipX 1 2 44) from xs_invV hG hΓ k_X4_flipX rfl (ci := 3) rfl q1502 q1504 qs30 dX4_h_41) (by simp [xm_stk, xv_cat, xc_int, xc_long, xc_float, xc_double, xc_ref]) ha5 e0 (fun Q X hQ => K_X4_flipX hG a5 s1 s2 _ e1 hQ) ?_
    refine xw_ald (show xm_Imp g Γ 44 (xi_ald 0 45) from xs_aload_n hΓ dX4_h_44) rfl ?_
    refine xw_ild (show xm_Imp g Γ 45 (xi_ild 1 46) from xs_iload_n hΓ dX4_h_45) rfl ?_
    refine xw_ild (show xm_Imp g Γ 46 (xi_ild 2 47) from xs_iload_n hΓ dX4_h_46) rfl ?_
    refine xw_ild (show xm_Imp g Γ 47 (xi_ild 3 48) from xs_iload_n hΓ dX4_h_47) rfl ?_
    refine xw_ic (show xm_Imp g Γ 48 (xi_ic (fun x y => x = y) 55 51) from xs_icmp_eq hΓ dX4_h_48 (by decide)) (fun c => ?_) (fun c => ?_)
    · rw [if_pos c] at e
      refine xw_psh (v := (.int (0))) (show xm_Imp g Γ 55 (xi_psh (.int (0)) 56) from xs_iconst hΓ dX4_h_55 (by decide)) ?_
      exact xm_lx (hB_56 _ _ _ _ _ e hp) (trivial)
    · rw [if_neg c] at e
      refine xw_psh (v := (.int (1))) (show xm_Imp g Γ 51 (xi_psh (.int (1)) 52) from xs_iconst hΓ dX4_h_51 (by decide)) ?_
      refine xw_goto (show xm_Imp g Γ 52 (xi_goto 56) from xs_goto hΓ dX4_h_52 (by decide)) ?_
      exact xm_lx (hB_56 _ _ _ _ _ e hp) (trivial)
  have hB_26 : ∀ (l0 : Nat) (l1 : Int32) (l2 : Int32) (l3 : Int32) (s0 : Option Nat) (s1 : Int32) (h : xm_H) (o : xm_H), B_X4_h_26 g l0 l1 l2 l3 s0 s1 h = some o → P0 o → xm_W g Γ 26 [some (.ref l0), some (.int l1), some (.int l2), some (.int l3)] [.int s1, va_rf s0] h 0 0 := by
    intro l0 l1 l2 l3 s0 s1 h o e hp
    unfold B_X4_h_26 at e
    obtain ⟨a3, ha3, e⟩ := xo_b_s e
    obtain ⟨_, e0, e⟩ := xo_b_s e
    obtain ⟨v4, e1, e⟩ := xo_b_s e
    refine xw_hu1 (o := s0) (show xm_Imp g Γ 26 (xi_vir g 3 M_X4_flipIf 1 1 29) from xs_invV hG hΓ k_X4_flipIf rfl (ci := 3) rfl q1498 q1499 q1500 dX4_h_26) (by simp [xm_stk, xv_cat, xc_int, xc_long, xc_float, xc_double, xc_ref]) ha3 e0 (fun Q X hQ => K_X4_flipIf hG a3 s1 _ e1 hQ) ?_
    refine xw_ald (show xm_Imp g Γ 29 (xi_ald 0 30) from xs_aload_n hΓ dX4_h_29) rfl ?_
    refine xw_ild (show xm_Imp g Γ 30 (xi_ild 1 31) from xs_iload_n hΓ dX4_h_30) rfl ?_
    refine xw_ild (show xm_Imp g Γ 31 (xi_ild 2 32) from xs_iload_n hΓ dX4_h_31) rfl ?_
    refine xw_ild (show xm_Imp g Γ 32 (xi_ild 3 33) from xs_iload_n hΓ dX4_h_32) rfl ?_
    refine xw_ic (show xm_Imp g Γ 33 (xi_ic (fun x y => x = y) 40 36) from xs_icmp_eq hΓ dX4_h_33 (by decide)) (fun c => ?_) (fun c => ?_)
    · rw [if_pos c] at e
      refine xw_psh (v := (.int (0))) (show xm_Imp g Γ 40 (xi_psh (.int (0)) 41) from xs_iconst hΓ dX4_h_40 (by decide)) ?_
      exact hB_41 _ _ _ _ _ _ _ _ _ e hp
    · rw [if_neg c] at e
      refine xw_psh (v := (.int (1))) (show xm_Imp g Γ 36 (xi_psh (.int (1)) 37) from xs_iconst hΓ dX4_h_36 (by decide)) ?_
      refine xw_goto (show xm_Imp g Γ 37 (xi_goto 41) from xs_goto hΓ dX4_h_37 (by decide)) ?_
      exact hB_41 _ _ _ _ _ _ _ _ _ e hp
  unfold F_X4_h at e
  refine xw_ald (show xm_Imp g Γ 0 (xi_ald 0 1) from xs_aload_n hΓ dX4_h_0) rfl ?_
  refine xw_ild (show xm_Imp g Γ 1 (xi_ild 1 2) from xs_iload_n hΓ dX4_h_1) rfl ?_
  obtain ⟨_, e0, e⟩ := xo_b_s e
  obtain ⟨v1, e1, e⟩ := xo_b_s e
  refine xw_hv1 (o := (some p0)) (show xm_Imp g Γ 2 (xi_vir g 3 M_X4_hasX 2 1 5) from xs_invV hG hΓ k_X4_hasX rfl (ci := 3) rfl q1489 q1491 qs28 dX4_h_2) rfl rfl e0 (fun Q X hQ => K_X4_hasX hG p0 p1 _ e1 hQ) ?_
  refine xw_ist (ls' := [some (.ref p0), some (.int p1), some (.int v1), none]) (show xm_Imp g Γ 5 (xi_ist 2 6) from xs_istore_n hΓ dX4_h_5 (Nat.le_of_ble_eq_true rfl)) rfl ?_
  refine xw_ald (show xm_Imp g Γ 6 (xi_ald 0 7) from xs_aload_n hΓ dX4_h_6) rfl ?_
  refine xw_ild (show xm_Imp g Γ 7 (xi_ild 1 8) from xs_iload_n hΓ dX4_h_7) rfl ?_
  obtain ⟨_, e0, e⟩ := xo_b_s e
  obtain ⟨v2, e1, e⟩ := xo_b_s e
  refine xw_hv1 (o := (some p0)) (show xm_Imp g Γ 8 (xi_vir g 3 M_X4_hasZ 2 1 11) from xs_invV hG hΓ k_X4_hasZ rfl (ci := 3) rfl q1494 q1496 qs29 dX4_h_8) rfl rfl e0 (fun Q X hQ => K_X4_hasZ hG p0 p1 _ e1 hQ) ?_
  refine xw_ist (ls' := [some (.ref p0), some (.int p1), some (.int v1), some (.int v2)]) (show xm_Imp g Γ 11 (xi_ist 3 12) from xs_istore_n hΓ dX4_h_11 (Nat.le_of_ble_eq_true rfl)) rfl ?_
  refine xw_ald (show xm_Imp g Γ 12 (xi_ald 0 13) from xs_aload_n hΓ dX4_h_12) rfl ?_
  refine xw_ild (show xm_Imp g Γ 13 (xi_ild 2 14) from xs_iload_n hΓ dX4_h_13) rfl ?_
  refine xw_if (show xm_Imp g Γ 14 (xi_if (fun x => x = 0) 25 17) from xs_if_eq hΓ dX4_h_14 (by decide)) (fun c => ?_) (fun c => ?_)
  · rw [if_pos c] at e
    refine xw_psh (v := (.int (0))) (show xm_Imp g Γ 25 (xi_psh (.int (0)) 26) from xs_iconst hΓ dX4_h_25 (by decide)) ?_
    exact hB_26 _ _ _ _ _ _ _ _ e hp
  · rw [if_neg c] at e
    refine xw_ild (show xm_Imp g Γ 17 (xi_ild 3 18) from xs_iload_n hΓ dX4_h_17) rfl ?_
    refine xw_if (show xm_Imp g Γ 18 (xi_if (fun x => x = 0) 25 21) from xs_if_eq hΓ dX4_h_18 (by decide)) (fun c => ?_) (fun c => ?_)
    · rw [if_pos c] at e
      refine xw_psh (v := (.int (0))) (show xm_Imp g Γ 25 (xi_psh (.int (0)) 26) from xs_iconst hΓ dX4_h_25 (by decide)) ?_
      exact hB_26 _ _ _ _ _ _ _ _ e hp
    · rw [if_neg c] at e
      refine xw_psh (v := (.int (1))) (show xm_Imp g Γ 21 (xi_psh (.int (1)) 22) from xs_iconst hΓ dX4_h_21 (by decide)) ?_
      refine xw_goto (show xm_Imp g Γ 22 (xi_goto 26) from xs_goto hΓ dX4_h_22 (by decide)) ?_
      exact hB_26 _ _ _ _ _ _ _ _ e hp
noncomputable def F_X1_lambda_gateOf_0 (g : xm_G) (p0 : Option Nat) (p1 : Int32) (p2 : Int32) (h : xm_H) : Option (xm_H) :=
 xo_b p0 (fun a1 =>
 xo_b (xh_is 3 h a1) (fun _ =>
 xo_b (F_X4_h g a1 p1 h) (fun v2 =>
 some v2)))
set_option maxHeartbeats 4000000 in
theorem K_X1_lambda_gateOf_0 {g : xm_G} (hG : xm_Gw g) (p0 : Option Nat) (p1 : Int32) (p2 : Int32) (h : xm_H) {o : xm_H} (e : F_X1_lambda_gateOf_0 g p0 p1 p2 h = some o) {Q : xm_P} {X : xm_X} (hQ : Q none o) : xm_Run g M_X1_lambda_gateOf_0 4 [va_rf p0, .int p1, .int p2] h 0 0 Q X := by
  refine xm_Run.of2 (ls := [some (va_rf p0), some (.int p1), some (.int p2)]) pn_StringTableau (by cases p0 <;> exact Nat.le_of_ble_eq_true rfl) (by cases p0 <;> rfl) (fun Γ hΓ => ?_)
  obtain ⟨P0, hP0, hp⟩ : ∃ P : xm_H → Prop, (∀ o, P o → Q none o) ∧ P o := ⟨fun o => Q none o, fun _ h => h, hQ⟩
  clear hQ
  show xm_W g Γ 0 [some (va_rf p0), some (.int p1), some (.int p2)] [] h 0 0
  unfold F_X1_lambda_gateOf_0 at e
  refine xw_aldo (x := p0) (show xm_Imp g Γ 0 (xi_ald 0 1) from xs_aload_n hΓ dX1_lambda_gateOf_0_0) rfl ?_
  refine xw_ild (show xm_Imp g Γ 1 (xi_ild 1 2) from xs_iload_n hΓ dX1_lambda_gateOf_0_1) rfl ?_
  obtain ⟨a1, ha1, e⟩ := xo_b_s e
  obtain ⟨_, e0, e⟩ := xo_b_s e
  obtain ⟨v2, e1, e⟩ := xo_b_s e
  refine xw_hu1 (o := p0) (show xm_Imp g Γ 2 (xi_vir g 3 M_X4_h 3 1 5) from xs_invV hG hΓ k_X4_h rfl (ci := 3) rfl q1485 q1486 q1487 dX1_lambda_gateOf_0_2) (by simp [xm_stk, xv_cat, xc_int, xc_long, xc_float, xc_double, xc_ref]) ha1 e0 (fun Q X hQ => K_X4_h hG a1 p1 _ e1 hQ) ?_
  exact xw_vret (show xm_Imp g Γ 5 (xi_vret _) from xs_return hΓ rfl dX1_lambda_gateOf_0_5) (hP0 _ (xl_fin e hp))
noncomputable def B_X4_turn_23 (g : xm_G) (l0 : Nat) (l1 : Int32) (s0 : Option Nat) (s1 : Int32) (h : xm_H) : Option (xm_H) :=
 xo_b s0 (fun a2 =>
 xo_b (xh_is 3 h a2) (fun _ =>
 xo_b (F_X4_flipIf g a2 s1 h) (fun v3 =>
 xo_b (xh_is 3 v3 l0) (fun _ =>
 xo_b (F_X4_hasX g l0 l1 v3) (fun v4 =>
 xo_b (xh_is 3 v3 l0) (fun _ =>
 xo_b (F_X4_flipZ g l0 l1 v4 v3) (fun v5 =>
 some v5)))))))
noncomputable def B_X4_turn_22 (g : xm_G) (l0 : Nat) (l1 : Int32) (s0 : Option Nat) (h : xm_H) : Option (xm_H) :=
 B_X4_turn_23 g l0 l1 s0 0 h
noncomputable def F_X4_turn (g : xm_G) (p0 : Nat) (p1 : Int32) (p2 : Int32) (h : xm_H) : Option (xm_H) :=
 xo_b (xh_is 3 h p0) (fun _ =>
 xo_b (F_X4_hasX g p0 p1 h) (fun v1 =>
 (if v1 = 0 then
 B_X4_turn_22 g p0 p1 (some p0) h else
 xo_b (xh_is 3 h p0) (fun _ =>
 xo_b (F_X4_hasZ g p0 p1 h) (fun v6 =>
 B_X4_turn_23 g p0 p1 (some p0) (if v6 = p2 then 0 else 1) h)))))
set_option maxHeartbeats 4000000 in
theorem K_X4_turn {g : xm_G} (hG : xm_Gw g) (p0 : Nat) (p1 : Int32) (p2 : Int32) (h : xm_H) {o : xm_H} (e : F_X4_turn g p0 p1 p2 h = some o) {Q : xm_P} {X : xm_X} (hQ : Q none o) : xm_Run g M_X4_turn 3 [.ref p0, .int p1, .int p2] h 0 0 Q X := by
  refine xm_Run.of pn_StringTableau_Row (Nat.le_of_ble_eq_true rfl) (fun Γ hΓ => ?_)
  obtain ⟨P0, hP0, hp⟩ : ∃ P : xm_H → Prop, (∀ o, P o → Q none o) ∧ P o := ⟨fun o => Q none o, fun _ h => h, hQ⟩
  clear hQ
  show xm_W g Γ 0 [some (.ref p0), some (.int p1), some (.int p2)] [] h 0 0
  have hB_23 : ∀ (l0 : Nat) (l1 : Int32) (s0 : Option Nat) (s1 : Int32) (h : xm_H) (o : xm_H), B_X4_turn_23 g l0 l1 s0 s1 h = some o → P0 o → xm_W g Γ 23 [some (.ref l0), some (.int l1), none] [.int s1, va_rf s0] h 0 0 := by
    intro l0 l1 s0 s1 h o e hp
    unfold B_X4_turn_23 at e
    obtain ⟨a2, ha2, e⟩ := xo_b_s e
    obtain ⟨_, e0, e⟩ := xo_b_s e
    obtain ⟨v3, e1, e⟩ := xo_b_s e
    refine xw_hu1 (o := s0) (show xm_Imp g Γ 23 (xi_vir g 3 M_X4_flipIf 1 1 26) from xs_invV hG hΓ k_X4_flipIf rfl (ci := 3) rfl q1498 q1499 q1500 dX4_turn_23) (by simp [xm_stk, xv_cat, xc_int, xc_long, xc_float, xc_double, xc_ref]) ha2 e0 (fun Q X hQ => K_X4_flipIf hG a2 s1 _ e1 hQ) ?_
    refine xw_ald (show xm_Imp g Γ 26 (xi_ald 0 27) from xs_aload_n hΓ dX4_turn_26) rfl ?_
    refine xw_ild (show xm_Imp g Γ 27 (xi_ild 1 28) from xs_iload_n hΓ dX4_turn_27) rfl ?_
    refine xw_ald (show xm_Imp g Γ 28 (xi_ald 0 29) from xs_aload_n hΓ dX4_turn_28) rfl ?_
    refine xw_ild (show xm_Imp g Γ 29 (xi_ild 1 30) from xs_iload_n hΓ dX4_turn_29) rfl ?_
    obtain ⟨_, e0, e⟩ := xo_b_s e
    obtain ⟨v4, e1, e⟩ := xo_b_s e
    refine xw_hv1 (o := (some l0)) (show xm_Imp g Γ 30 (xi_vir g 3 M_X4_hasX 2 1 33) from xs_invV hG hΓ k_X4_hasX rfl (ci := 3) rfl q1489 q1491 qs28 dX4_turn_30) rfl rfl e0 (fun Q X hQ => K_X4_hasX hG l0 l1 _ e1 hQ) ?_
    obtain ⟨_, e0, e⟩ := xo_b_s e
    obtain ⟨v5, e1, e⟩ := xo_b_s e
    refine xw_hu2 (o := (some l0)) (show xm_Imp g Γ 33 (xi_vir g 3 M_X4_flipZ 1 2 36) from xs_invV hG hΓ k_X4_flipZ rfl (ci := 3) rfl q1506 q1508 qs31 dX4_turn_33) rfl rfl e0 (fun Q X hQ => K_X4_flipZ hG l0 l1 v4 _ e1 hQ) ?_
    exact xw_vret (show xm_Imp g Γ 36 (xi_vret _) from xs_return hΓ rfl dX4_turn_36) (hP0 _ (xl_fin e hp))
  have hB_22 : ∀ (l0 : Nat) (l1 : Int32) (s0 : Option Nat) (h : xm_H) (o : xm_H), B_X4_turn_22 g l0 l1 s0 h = some o → P0 o → xm_W g Γ 22 [some (.ref l0), some (.int l1), none] [va_rf s0] h 0 0 := by
    intro l0 l1 s0 h o e hp
    unfold B_X4_turn_22 at e
    refine xw_psh (v := (.int (0))) (show xm_Imp g Γ 22 (xi_psh (.int (0)) 23) from xs_iconst hΓ dX4_turn_22 (by decide)) ?_
    exact hB_23 _ _ _ _ _ _ e hp
  unfold F_X4_turn at e
  refine xw_ald (show xm_Imp g Γ 0 (xi_ald 0 1) from xs_aload_n hΓ dX4_turn_0) rfl ?_
  refine xw_ald (show xm_Imp g Γ 1 (xi_ald 0 2) from xs_aload_n hΓ dX4_turn_1) rfl ?_
  refine xw_ild (show xm_Imp g Γ 2 (xi_ild 1 3) from xs_iload_n hΓ dX4_turn_2) rfl ?_
  obtain ⟨_, e0, e⟩ := xo_b_s e
  obtain ⟨v1, e1, e⟩ := xo_b_s e
  refine xw_hv1 (o := (some p0)) (show xm_Imp g Γ 3 (xi_vir g 3 M_X4_hasX 2 1 6) from xs_invV hG hΓ k_X4_hasX rfl (ci := 3) rfl q1489 q1491 qs28 dX4_turn_3) rfl rfl e0 (fun Q X hQ => K_X4_hasX hG p0 p1 _ e1 hQ) ?_
  refine xw_if (show xm_Imp g Γ 6 (xi_if (fun x => x = 0) 22 9) from xs_if_eq hΓ dX4_turn_6 (by decide)) (fun c => ?_) (fun c => ?_)
  · rw [if_pos c] at e
    exact xm_lx (hB_22 _ _ _ _ _ e hp) (And.intro rfl (And.intro rfl (trivial)))
  · rw [if_neg c] at e
    refine xw_ald (show xm_Imp g Γ 9 (xi_ald 0 10) from xs_aload_n hΓ dX4_turn_9) rfl ?_
    refine xw_ild (show xm_Imp g Γ 10 (xi_ild 1 11) from xs_iload_n hΓ dX4_turn_10) rfl ?_
    obtain ⟨_, e0, e⟩ := xo_b_s e
    obtain ⟨v6, e1, e⟩ := xo_b_s e
    refine xw_hv1 (o := (some p0)) (show xm_Imp g Γ 11 (xi_vir g 3 M_X4_hasZ 2 1 14) from xs_invV hG hΓ k_X4_hasZ rfl (ci := 3) rfl q1494 q1496 qs29 dX4_turn_11) rfl rfl e0 (fun Q X hQ => K_X4_hasZ hG p0 p1 _ e1 hQ) ?_
    refine xw_ild (show xm_Imp g Γ 14 (xi_ild 2 15) from xs_iload_n hΓ dX4_turn_14) rfl ?_
    refine xw_ic (show xm_Imp g Γ 15 (xi_ic (fun x y => x = y) 22 18) from xs_icmp_eq hΓ dX4_turn_15 (by decide)) (fun c => ?_) (fun c => ?_)
    · rw [if_pos c] at e
      refine xw_psh (v := (.int (0))) (show xm_Imp g Γ 22 (xi_psh (.int (0)) 23) from xs_iconst hΓ dX4_turn_22 (by decide)) ?_
      exact xm_lx (hB_23 _ _ _ _ _ _ e hp) (And.intro rfl (And.intro rfl (trivial)))
    · rw [if_neg c] at e
      refine xw_psh (v := (.int (1))) (show xm_Imp g Γ 18 (xi_psh (.int (1)) 19) from xs_iconst hΓ dX4_turn_18 (by decide)) ?_
      refine xw_goto (show xm_Imp g Γ 19 (xi_goto 23) from xs_goto hΓ dX4_turn_19 (by decide)) ?_
      exact xm_lx (hB_23 _ _ _ _ _ _ e hp) (And.intro rfl (And.intro rfl (trivial)))
noncomputable def F_X1_lambda_gateOf_1 (g : xm_G) (p0 : Option Nat) (p1 : Int32) (p2 : Int32) (h : xm_H) : Option (xm_H) :=
 xo_b p0 (fun a1 =>
 xo_b (xh_is 3 h a1) (fun _ =>
 xo_b (F_X4_turn g a1 p1 0 h) (fun v2 =>
 some v2)))
set_option maxHeartbeats 4000000 in
theorem K_X1_lambda_gateOf_1 {g : xm_G} (hG : xm_Gw g) (p0 : Option Nat) (p1 : Int32) (p2 : Int32) (h : xm_H) {o : xm_H} (e : F_X1_lambda_gateOf_1 g p0 p1 p2 h = some o) {Q : xm_P} {X : xm_X} (hQ : Q none o) : xm_Run g M_X1_lambda_gateOf_1 4 [va_rf p0, .int p1, .int p2] h 0 0 Q X := by
  refine xm_Run.of2 (ls := [some (va_rf p0), some (.int p1), some (.int p2)]) pn_StringTableau (by cases p0 <;> exact Nat.le_of_ble_eq_true rfl) (by cases p0 <;> rfl) (fun Γ hΓ => ?_)
  obtain ⟨P0, hP0, hp⟩ : ∃ P : xm_H → Prop, (∀ o, P o → Q none o) ∧ P o := ⟨fun o => Q none o, fun _ h => h, hQ⟩
  clear hQ
  show xm_W g Γ 0 [some (va_rf p0), some (.int p1), some (.int p2)] [] h 0 0
  unfold F_X1_lambda_gateOf_1 at e
  refine xw_aldo (x := p0) (show xm_Imp g Γ 0 (xi_ald 0 1) from xs_aload_n hΓ dX1_lambda_gateOf_1_0) rfl ?_
  refine xw_ild (show xm_Imp g Γ 1 (xi_ild 1 2) from xs_iload_n hΓ dX1_lambda_gateOf_1_1) rfl ?_
  refine xw_psh (v := (.int (0))) (show xm_Imp g Γ 2 (xi_psh (.int (0)) 3) from xs_iconst hΓ dX1_lambda_gateOf_1_2 (by decide)) ?_
  obtain ⟨a1, ha1, e⟩ := xo_b_s e
  obtain ⟨_, e0, e⟩ := xo_b_s e
  obtain ⟨v2, e1, e⟩ := xo_b_s e
  refine xw_hu2 (o := p0) (show xm_Imp g Γ 3 (xi_vir g 3 M_X4_turn 3 2 6) from xs_invV hG hΓ k_X4_turn rfl (ci := 3) rfl q1512 q1513 q1514 dX1_lambda_gateOf_1_3) (by simp [xm_stk, xv_cat, xc_int, xc_long, xc_float, xc_double, xc_ref]) ha1 e0 (fun Q X hQ => K_X4_turn hG a1 p1 0 _ e1 hQ) ?_
  exact xw_vret (show xm_Imp g Γ 6 (xi_vret _) from xs_return hΓ rfl dX1_lambda_gateOf_1_6) (hP0 _ (xl_fin e hp))
noncomputable def F_X1_lambda_gateOf_2 (g : xm_G) (p0 : Option Nat) (p1 : Int32) (p2 : Int32) (h : xm_H) : Option (xm_H) :=
 xo_b p0 (fun a1 =>
 xo_b (xh_is 3 h a1) (fun _ =>
 xo_b (F_X4_turn g a1 p1 1 h) (fun v2 =>
 some v2)))
set_option maxHeartbeats 4000000 in
theorem K_X1_lambda_gateOf_2 {g : xm_G} (hG : xm_Gw g) (p0 : Option Nat) (p1 : Int32) (p2 : Int32) (h : xm_H) {o : xm_H} (e : F_X1_lambda_gateOf_2 g p0 p1 p2 h = some o) {Q : xm_P} {X : xm_X} (hQ : Q none o) : xm_Run g M_X1_lambda_gateOf_2 4 [va_rf p0, .int p1, .int p2] h 0 0 Q X := by
  refine xm_Run.of2 (ls := [some (va_rf p0), some (.int p1), some (.int p2)]) pn_StringTableau (by cases p0 <;> exact Nat.le_of_ble_eq_true rfl) (by cases p0 <;> rfl) (fun Γ hΓ => ?_)
  obtain ⟨P0, hP0, hp⟩ : ∃ P : xm_H → Prop, (∀ o, P o → Q none o) ∧ P o := ⟨fun o => Q none o, fun _ h => h, hQ⟩
  clear hQ
  show xm_W g Γ 0 [some (va_rf p0), some (.int p1), some (.int p2)] [] h 0 0
  unfold F_X1_lambda_gateOf_2 at e
  refine xw_aldo (x := p0) (show xm_Imp g Γ 0 (xi_ald 0 1) from xs_aload_n hΓ dX1_lambda_gateOf_2_0) rfl ?_
  refine xw_ild (show xm_Imp g Γ 1 (xi_ild 1 2) from xs_iload_n hΓ dX1_lambda_gateOf_2_1) rfl ?_
  refine xw_psh (v := (.int (1))) (show xm_Imp g Γ 2 (xi_psh (.int (1)) 3) from xs_iconst hΓ dX1_lambda_gateOf_2_2 (by decide)) ?_
  obtain ⟨a1, ha1, e⟩ := xo_b_s e
  obtain ⟨_, e0, e⟩ := xo_b_s e
  obtain ⟨v2, e1, e⟩ := xo_b_s e
  refine xw_hu2 (o := p0) (show xm_Imp g Γ 3 (xi_vir g 3 M_X4_turn 3 2 6) from xs_invV hG hΓ k_X4_turn rfl (ci := 3) rfl q1512 q1513 q1514 dX1_lambda_gateOf_2_3) (by simp [xm_stk, xv_cat, xc_int, xc_long, xc_float, xc_double, xc_ref]) ha1 e0 (fun Q X hQ => K_X4_turn hG a1 p1 1 _ e1 hQ) ?_
  exact xw_vret (show xm_Imp g Γ 6 (xi_vret _) from xs_return hΓ rfl dX1_lambda_gateOf_2_6) (hP0 _ (xl_fin e hp))
noncomputable def F_X1_lambda_gateOf_3 (g : xm_G) (p0 : Option Nat) (p1 : Int32) (p2 : Int32) (h : xm_H) : Option (xm_H) :=
 xo_b p0 (fun a1 =>
 xo_b (xh_is 3 h a1) (fun _ =>
 xo_b (F_X4_hasZ g a1 p1 h) (fun v2 =>
 xo_b (xh_is 3 h a1) (fun _ =>
 xo_b (F_X4_flipIf g a1 v2 h) (fun v3 =>
 some v3)))))
set_option maxHeartbeats 4000000 in
theorem K_X1_lambda_gateOf_3 {g : xm_G} (hG : xm_Gw g) (p0 : Option Nat) (p1 : Int32) (p2 : Int32) (h : xm_H) {o : xm_H} (e : F_X1_lambda_gateOf_3 g p0 p1 p2 h = some o) {Q : xm_P} {X : xm_X} (hQ : Q none o) : xm_Run g M_X1_lambda_gateOf_3 3 [va_rf p0, .int p1, .int p2] h 0 0 Q X := by
  refine xm_Run.of2 (ls := [some (va_rf p0), some (.int p1), some (.int p2)]) pn_StringTableau (by cases p0 <;> exact Nat.le_of_ble_eq_true rfl) (by cases p0 <;> rfl) (fun Γ hΓ => ?_)
  obtain ⟨P0, hP0, hp⟩ : ∃ P : xm_H → Prop, (∀ o, P o → Q none o) ∧ P o := ⟨fun o => Q none o, fun _ h => h, hQ⟩
  clear hQ
  show xm_W g Γ 0 [some (va_rf p0), some (.int p1), some (.int p2)] [] h 0 0
  unfold F_X1_lambda_gateOf_3 at e
  refine xw_aldo (x := p0) (show xm_Imp g Γ 0 (xi_ald 0 1) from xs_aload_n hΓ dX1_lambda_gateOf_3_0) rfl ?_
  refine xw_aldo (x := p0) (show xm_Imp g Γ 1 (xi_ald 0 2) from xs_aload_n hΓ dX1_lambda_gateOf_3_1) rfl ?_
  refine xw_ild (show xm_Imp g Γ 2 (xi_ild 1 3) from xs_iload_n hΓ dX1_lambda_gateOf_3_2) rfl ?_
  obtain ⟨a1, ha1, e⟩ := xo_b_s e
  obtain ⟨_, e0, e⟩ := xo_b_s e
  obtain ⟨v2, e1, e⟩ := xo_b_s e
  refine xw_hv1 (o := p0) (show xm_Imp g Γ 3 (xi_vir g 3 M_X4_hasZ 2 1 6) from xs_invVN hG hΓ k_X4_hasZ rfl (ci := 3) rfl q1520 q1496 qs29 dX1_lambda_gateOf_3_3) (by simp [xm_stk, xv_cat, xc_int, xc_long, xc_float, xc_double, xc_ref]) ha1 e0 (fun Q X hQ => K_X4_hasZ hG a1 p1 _ e1 hQ) ?_
  obtain ⟨_, e0, e⟩ := xo_b_s e
  obtain ⟨v3, e1, e⟩ := xo_b_s e
  refine xw_hu1 (o := p0) (show xm_Imp g Γ 6 (xi_vir g 3 M_X4_flipIf 1 1 9) from xs_invV hG hΓ k_X4_flipIf rfl (ci := 3) rfl q1521 q1499 q1500 dX1_lambda_gateOf_3_6) (by simp [xm_stk, xv_cat, xc_int, xc_long, xc_float, xc_double, xc_ref]) ha1 e0 (fun Q X hQ => K_X4_flipIf hG a1 v2 _ e1 hQ) ?_
  exact xw_vret (show xm_Imp g Γ 9 (xi_vret _) from xs_return hΓ rfl dX1_lambda_gateOf_3_9) (hP0 _ (xl_fin e hp))
noncomputable def B_X1_lambda_gateOf_4_19 (g : xm_G) (s0 : Option Nat) (s1 : Int32) (h : xm_H) : Option (xm_H) :=
 xo_b s0 (fun a4 =>
 xo_b (xh_is 3 h a4) (fun _ =>
 xo_b (F_X4_flipIf g a4 s1 h) (fun v5 =>
 some v5)))
noncomputable def F_X1_lambda_gateOf_4 (g : xm_G) (p0 : Option Nat) (p1 : Int32) (p2 : Int32) (h : xm_H) : Option (xm_H) :=
 xo_b p0 (fun a1 =>
 xo_b (xh_is 3 h a1) (fun _ =>
 xo_b (F_X4_hasX g a1 p1 h) (fun v2 =>
 xo_b (xh_is 3 h a1) (fun _ =>
 xo_b (F_X4_hasZ g a1 p1 h) (fun v3 =>
 B_X1_lambda_gateOf_4_19 g p0 (if v2 = v3 then 0 else 1) h)))))
set_option maxHeartbeats 4000000 in
theorem K_X1_lambda_gateOf_4 {g : xm_G} (hG : xm_Gw g) (p0 : Option Nat) (p1 : Int32) (p2 : Int32) (h : xm_H) {o : xm_H} (e : F_X1_lambda_gateOf_4 g p0 p1 p2 h = some o) {Q : xm_P} {X : xm_X} (hQ : Q none o) : xm_Run g M_X1_lambda_gateOf_4 3 [va_rf p0, .int p1, .int p2] h 0 0 Q X := by
  refine xm_Run.of2 (ls := [some (va_rf p0), some (.int p1), some (.int p2)]) pn_StringTableau (by cases p0 <;> exact Nat.le_of_ble_eq_true rfl) (by cases p0 <;> rfl) (fun Γ hΓ => ?_)
  obtain ⟨P0, hP0, hp⟩ : ∃ P : xm_H → Prop, (∀ o, P o → Q none o) ∧ P o := ⟨fun o => Q none o, fun _ h => h, hQ⟩
  clear hQ
  show xm_W g Γ 0 [some (va_rf p0), some (.int p1), some (.int p2)] [] h 0 0
  have hB_19 : ∀ (s0 : Option Nat) (s1 : Int32) (h : xm_H) (o : xm_H), B_X1_lambda_gateOf_4_19 g s0 s1 h = some o → P0 o → xm_W g Γ 19 [none, none, none] [.int s1, va_rf s0] h 0 0 := by
    intro s0 s1 h o e hp
    unfold B_X1_lambda_gateOf_4_19 at e
    obtain ⟨a4, ha4, e⟩ := xo_b_s e
    obtain ⟨_, e0, e⟩ := xo_b_s e
    obtain ⟨v5, e1, e⟩ := xo_b_s e
    refine xw_hu1 (o := s0) (show xm_Imp g Γ 19 (xi_vir g 3 M_X4_flipIf 1 1 22) from xs_invV hG hΓ k_X4_flipIf rfl (ci := 3) rfl q1521 q1499 q1500 dX1_lambda_gateOf_4_19) (by simp [xm_stk, xv_cat, xc_int, xc_long, xc_float, xc_double, xc_ref]) ha4 e0 (fun Q X hQ => K_X4_flipIf hG a4 s1 _ e1 hQ) ?_
    exact xw_vret (show xm_Imp g Γ 22 (xi_vret _) from xs_return hΓ rfl dX1_lambda_gateOf_4_22) (hP0 _ (xl_fin e hp))
  unfold F_X1_lambda_gateOf_4 at e
  refine xw_aldo (x := p0) (show xm_Imp g Γ 0 (xi_ald 0 1) from xs_aload_n hΓ dX1_lambda_gateOf_4_0) rfl ?_
  refine xw_aldo (x := p0) (show xm_Imp g Γ 1 (xi_ald 0 2) from xs_aload_n hΓ dX1_lambda_gateOf_4_1) rfl ?_
  refine xw_ild (show xm_Imp g Γ 2 (xi_ild 1 3) from xs_iload_n hΓ dX1_lambda_gateOf_4_2) rfl ?_
  obtain ⟨a1, ha1, e⟩ := xo_b_s e
  obtain ⟨_, e0, e⟩ := xo_b_s e
  obtain ⟨v2, e1, e⟩ := xo_b_s e
  refine xw_hv1 (o := p0) (show xm_Imp g Γ 3 (xi_vir g 3 M_X4_hasX 2 1 6) from xs_invVN hG hΓ k_X4_hasX rfl (ci := 3) rfl q1524 q1491 qs28 dX1_lambda_gateOf_4_3) (by simp [xm_stk, xv_cat, xc_int, xc_long, xc_float, xc_double, xc_ref]) ha1 e0 (fun Q X hQ => K_X4_hasX hG a1 p1 _ e1 hQ) ?_
  refine xw_aldo (x := p0) (show xm_Imp g Γ 6 (xi_ald 0 7) from xs_aload_n hΓ dX1_lambda_gateOf_4_6) rfl ?_
  refine xw_ild (show xm_Imp g Γ 7 (xi_ild 1 8) from xs_iload_n hΓ dX1_lambda_gateOf_4_7) rfl ?_
  obtain ⟨_, e0, e⟩ := xo_b_s e
  obtain ⟨v3, e1, e⟩ := xo_b_s e
  refine xw_hv1 (o := p0) (show xm_Imp g Γ 8 (xi_vir g 3 M_X4_hasZ 2 1 11) from xs_invVN hG hΓ k_X4_hasZ rfl (ci := 3) rfl q1520 q1496 qs29 dX1_lambda_gateOf_4_8) (by simp [xm_stk, xv_cat, xc_int, xc_long, xc_float, xc_double, xc_ref]) ha1 e0 (fun Q X hQ => K_X4_hasZ hG a1 p1 _ e1 hQ) ?_
  refine xw_ic (show xm_Imp g Γ 11 (xi_ic (fun x y => x = y) 18 14) from xs_icmp_eq hΓ dX1_lambda_gateOf_4_11 (by decide)) (fun c => ?_) (fun c => ?_)
  · rw [if_pos c] at e
    refine xw_psh (v := (.int (0))) (show xm_Imp g Γ 18 (xi_psh (.int (0)) 19) from xs_iconst hΓ dX1_lambda_gateOf_4_18 (by decide)) ?_
    exact xm_lx (hB_19 _ _ _ _ e hp) (trivial)
  · rw [if_neg c] at e
    refine xw_psh (v := (.int (1))) (show xm_Imp g Γ 14 (xi_psh (.int (1)) 15) from xs_iconst hΓ dX1_lambda_gateOf_4_14 (by decide)) ?_
    refine xw_goto (show xm_Imp g Γ 15 (xi_goto 19) from xs_goto hΓ dX1_lambda_gateOf_4_15 (by decide)) ?_
    exact xm_lx (hB_19 _ _ _ _ e hp) (trivial)
noncomputable def F_X1_lambda_gateOf_5 (g : xm_G) (p0 : Option Nat) (p1 : Int32) (p2 : Int32) (h : xm_H) : Option (xm_H) :=
 xo_b p0 (fun a1 =>
 xo_b (xh_is 3 h a1) (fun _ =>
 xo_b (F_X4_hasX g a1 p1 h) (fun v2 =>
 xo_b (xh_is 3 h a1) (fun _ =>
 xo_b (F_X4_flipIf g a1 v2 h) (fun v3 =>
 some v3)))))
set_option maxHeartbeats 4000000 in
theorem K_X1_lambda_gateOf_5 {g : xm_G} (hG : xm_Gw g) (p0 : Option Nat) (p1 : Int32) (p2 : Int32) (h : xm_H) {o : xm_H} (e : F_X1_lambda_gateOf_5 g p0 p1 p2 h = some o) {Q : xm_P} {X : xm_X} (hQ : Q none o) : xm_Run g M_X1_lambda_gateOf_5 3 [va_rf p0, .int p1, .int p2] h 0 0 Q X := by
  refine xm_Run.of2 (ls := [some (va_rf p0), some (.int p1), some (.int p2)]) pn_StringTableau (by cases p0 <;> exact Nat.le_of_ble_eq_true rfl) (by cases p0 <;> rfl) (fun Γ hΓ => ?_)
  obtain ⟨P0, hP0, hp⟩ : ∃ P : xm_H → Prop, (∀ o, P o → Q none o) ∧ P o := ⟨fun o => Q none o, fun _ h => h, hQ⟩
  clear hQ
  show xm_W g Γ 0 [some (va_rf p0), some (.int p1), some (.int p2)] [] h 0 0
  unfold F_X1_lambda_gateOf_5 at e
  refine xw_aldo (x := p0) (show xm_Imp g Γ 0 (xi_ald 0 1) from xs_aload_n hΓ dX1_lambda_gateOf_5_0) rfl ?_
  refine xw_aldo (x := p0) (show xm_Imp g Γ 1 (xi_ald 0 2) from xs_aload_n hΓ dX1_lambda_gateOf_5_1) rfl ?_
  refine xw_ild (show xm_Imp g Γ 2 (xi_ild 1 3) from xs_iload_n hΓ dX1_lambda_gateOf_5_2) rfl ?_
  obtain ⟨a1, ha1, e⟩ := xo_b_s e
  obtain ⟨_, e0, e⟩ := xo_b_s e
  obtain ⟨v2, e1, e⟩ := xo_b_s e
  refine xw_hv1 (o := p0) (show xm_Imp g Γ 3 (xi_vir g 3 M_X4_hasX 2 1 6) from xs_invVN hG hΓ k_X4_hasX rfl (ci := 3) rfl q1524 q1491 qs28 dX1_lambda_gateOf_5_3) (by simp [xm_stk, xv_cat, xc_int, xc_long, xc_float, xc_double, xc_ref]) ha1 e0 (fun Q X hQ => K_X4_hasX hG a1 p1 _ e1 hQ) ?_
  obtain ⟨_, e0, e⟩ := xo_b_s e
  obtain ⟨v3, e1, e⟩ := xo_b_s e
  refine xw_hu1 (o := p0) (show xm_Imp g Γ 6 (xi_vir g 3 M_X4_flipIf 1 1 9) from xs_invV hG hΓ k_X4_flipIf rfl (ci := 3) rfl q1521 q1499 q1500 dX1_lambda_gateOf_5_6) (by simp [xm_stk, xv_cat, xc_int, xc_long, xc_float, xc_double, xc_ref]) ha1 e0 (fun Q X hQ => K_X4_flipIf hG a1 v2 _ e1 hQ) ?_
  exact xw_vret (show xm_Imp g Γ 9 (xi_vret _) from xs_return hΓ rfl dX1_lambda_gateOf_5_9) (hP0 _ (xl_fin e hp))
noncomputable def B_X4_cx_35 (g : xm_G) (l0 : Nat) (l1 : Int32) (l2 : Int32) (s0 : Option Nat) (s1 : Int32) (h : xm_H) : Option (xm_H) :=
 xo_b s0 (fun a2 =>
 xo_b (xh_is 3 h a2) (fun _ =>
 xo_b (F_X4_flipIf g a2 s1 h) (fun v3 =>
 xo_b (xh_is 3 v3 l0) (fun _ =>
 xo_b (F_X4_hasX g l0 l1 v3) (fun v4 =>
 xo_b (xh_is 3 v3 l0) (fun _ =>
 xo_b (F_X4_flipX g l0 l2 v4 v3) (fun v5 =>
 xo_b (xh_is 3 v5 l0) (fun _ =>
 xo_b (F_X4_hasZ g l0 l2 v5) (fun v6 =>
 xo_b (xh_is 3 v5 l0) (fun _ =>
 xo_b (F_X4_flipZ g l0 l1 v6 v5) (fun v7 =>
 some v7)))))))))))
noncomputable def B_X4_cx_34 (g : xm_G) (l0 : Nat) (l1 : Int32) (l2 : Int32) (s0 : Option Nat) (h : xm_H) : Option (xm_H) :=
 B_X4_cx_35 g l0 l1 l2 s0 0 h
noncomputable def F_X4_cx (g : xm_G) (p0 : Nat) (p1 : Int32) (p2 : Int32) (h : xm_H) : Option (xm_H) :=
 xo_b (xh_is 3 h p0) (fun _ =>
 xo_b (F_X4_hasX g p0 p1 h) (fun v1 =>
 (if v1 = 0 then
 B_X4_cx_34 g p0 p1 p2 (some p0) h else
 xo_b (xh_is 3 h p0) (fun _ =>
 xo_b (F_X4_hasZ g p0 p2 h) (fun v8 =>
 (if v8 = 0 then
 B_X4_cx_34 g p0 p1 p2 (some p0) h else
 xo_b (xh_is 3 h p0) (fun _ =>
 xo_b (F_X4_hasX g p0 p2 h) (fun v9 =>
 xo_b (xh_is 3 h p0) (fun _ =>
 xo_b (F_X4_hasZ g p0 p1 h) (fun v10 =>
 B_X4_cx_35 g p0 p1 p2 (some p0) (if v9 = v10 then 1 else 0) h))))))))))
set_option maxHeartbeats 4000000 in
theorem K_X4_cx {g : xm_G} (hG : xm_Gw g) (p0 : Nat) (p1 : Int32) (p2 : Int32) (h : xm_H) {o : xm_H} (e : F_X4_cx g p0 p1 p2 h = some o) {Q : xm_P} {X : xm_X} (hQ : Q none o) : xm_Run g M_X4_cx 3 [.ref p0, .int p1, .int p2] h 0 0 Q X := by
  refine xm_Run.of pn_StringTableau_Row (Nat.le_of_ble_eq_true rfl) (fun Γ hΓ => ?_)
  obtain ⟨P0, hP0, hp⟩ : ∃ P : xm_H → Prop, (∀ o, P o → Q none o) ∧ P o := ⟨fun o => Q none o, fun _ h => h, hQ⟩
  clear hQ
  show xm_W g Γ 0 [some (.ref p0), some (.int p1), some (.int p2)] [] h 0 0
  have hB_35 : ∀ (l0 : Nat) (l1 : Int32) (l2 : Int32) (s0 : Option Nat) (s1 : Int32) (h : xm_H) (o : xm_H), B_X4_cx_35 g l0 l1 l2 s0 s1 h = some o → P0 o → xm_W g Γ 35 [some (.ref l0), some (.int l1), some (.int l2)] [.int s1, va_rf s0] h 0 0 := by
    intro l0 l1 l2 s0 s1 h o e hp
    unfold B_X4_cx_35 at e
    obtain ⟨a2, ha2, e⟩ := xo_b_s e
    obtain ⟨_, e0, e⟩ := xo_b_s e
    obtain ⟨v3, e1, e⟩ := xo_b_s e
    refine xw_hu1 (o := s0) (show xm_Imp g Γ 35 (xi_vir g 3 M_X4_flipIf 1 1 38) from xs_invV hG hΓ k_X4_flipIf rfl (ci := 3) rfl q1498 q1499 q1500 dX4_cx_35) (by simp [xm_stk, xv_cat, xc_int, xc_long, xc_float, xc_double, xc_ref]) ha2 e0 (fun Q X hQ => K_X4_flipIf hG a2 s1 _ e1 hQ) ?_
    refine xw_ald (show xm_Imp g Γ 38 (xi_ald 0 39) from xs_aload_n hΓ dX4_cx_38) rfl ?_
    refine xw_ild (show xm_Imp g Γ 39 (xi_ild 2 40) from xs_iload_n hΓ dX4_cx_39) rfl ?_
    refine xw_ald (show xm_Imp g Γ 40 (xi_ald 0 41) from xs_aload_n hΓ dX4_cx_40) rfl ?_
    refine xw_ild (show xm_Imp g Γ 41 (xi_ild 1 42) from xs_iload_n hΓ dX4_cx_41) rfl ?_
    obtain ⟨_, e0, e⟩ := xo_b_s e
    obtain ⟨v4, e1, e⟩ := xo_b_s e
    refine xw_hv1 (o := (some l0)) (show xm_Imp g Γ 42 (xi_vir g 3 M_X4_hasX 2 1 45) from xs_invV hG hΓ k_X4_hasX rfl (ci := 3) rfl q1489 q1491 qs28 dX4_cx_42) rfl rfl e0 (fun Q X hQ => K_X4_hasX hG l0 l1 _ e1 hQ) ?_
    obtain ⟨_, e0, e⟩ := xo_b_s e
    obtain ⟨v5, e1, e⟩ := xo_b_s e
    refine xw_hu2 (o := (some l0)) (show xm_Imp g Γ 45 (xi_vir g 3 M_X4_flipX 1 2 48) from xs_invV hG hΓ k_X4_flipX rfl (ci := 3) rfl q1502 q1504 qs30 dX4_cx_45) rfl rfl e0 (fun Q X hQ => K_X4_flipX hG l0 l2 v4 _ e1 hQ) ?_
    refine xw_ald (show xm_Imp g Γ 48 (xi_ald 0 49) from xs_aload_n hΓ dX4_cx_48) rfl ?_
    refine xw_ild (show xm_Imp g Γ 49 (xi_ild 1 50) from xs_iload_n hΓ dX4_cx_49) rfl ?_
    refine xw_ald (show xm_Imp g Γ 50 (xi_ald 0 51) from xs_aload_n hΓ dX4_cx_50) rfl ?_
    refine xw_ild (show xm_Imp g Γ 51 (xi_ild 2 52) from xs_iload_n hΓ dX4_cx_51) rfl ?_
    obtain ⟨_, e0, e⟩ := xo_b_s e
    obtain ⟨v6, e1, e⟩ := xo_b_s e
    refine xw_hv1 (o := (some l0)) (show xm_Imp g Γ 52 (xi_vir g 3 M_X4_hasZ 2 1 55) from xs_invV hG hΓ k_X4_hasZ rfl (ci := 3) rfl q1494 q1496 qs29 dX4_cx_52) rfl rfl e0 (fun Q X hQ => K_X4_hasZ hG l0 l2 _ e1 hQ) ?_
    obtain ⟨_, e0, e⟩ := xo_b_s e
    obtain ⟨v7, e1, e⟩ := xo_b_s e
    refine xw_hu2 (o := (some l0)) (show xm_Imp g Γ 55 (xi_vir g 3 M_X4_flipZ 1 2 58) from xs_invV hG hΓ k_X4_flipZ rfl (ci := 3) rfl q1506 q1508 qs31 dX4_cx_55) rfl rfl e0 (fun Q X hQ => K_X4_flipZ hG l0 l1 v6 _ e1 hQ) ?_
    exact xw_vret (show xm_Imp g Γ 58 (xi_vret _) from xs_return hΓ rfl dX4_cx_58) (hP0 _ (xl_fin e hp))
  have hB_34 : ∀ (l0 : Nat) (l1 : Int32) (l2 : Int32) (s0 : Option Nat) (h : xm_H) (o : xm_H), B_X4_cx_34 g l0 l1 l2 s0 h = some o → P0 o → xm_W g Γ 34 [some (.ref l0), some (.int l1), some (.int l2)] [va_rf s0] h 0 0 := by
    intro l0 l1 l2 s0 h o e hp
    unfold B_X4_cx_34 at e
    refine xw_psh (v := (.int (0))) (show xm_Imp g Γ 34 (xi_psh (.int (0)) 35) from xs_iconst hΓ dX4_cx_34 (by decide)) ?_
    exact hB_35 _ _ _ _ _ _ _ e hp
  unfold F_X4_cx at e
  refine xw_ald (show xm_Imp g Γ 0 (xi_ald 0 1) from xs_aload_n hΓ dX4_cx_0) rfl ?_
  refine xw_ald (show xm_Imp g Γ 1 (xi_ald 0 2) from xs_aload_n hΓ dX4_cx_1) rfl ?_
  refine xw_ild (show xm_Imp g Γ 2 (xi_ild 1 3) from xs_iload_n hΓ dX4_cx_2) rfl ?_
  obtain ⟨_, e0, e⟩ := xo_b_s e
  obtain ⟨v1, e1, e⟩ := xo_b_s e
  refine xw_hv1 (o := (some p0)) (show xm_Imp g Γ 3 (xi_vir g 3 M_X4_hasX 2 1 6) from xs_invV hG hΓ k_X4_hasX rfl (ci := 3) rfl q1489 q1491 qs28 dX4_cx_3) rfl rfl e0 (fun Q X hQ => K_X4_hasX hG p0 p1 _ e1 hQ) ?_
  refine xw_if (show xm_Imp g Γ 6 (xi_if (fun x => x = 0) 34 9) from xs_if_eq hΓ dX4_cx_6 (by decide)) (fun c => ?_) (fun c => ?_)
  · rw [if_pos c] at e
    exact hB_34 _ _ _ _ _ _ e hp
  · rw [if_neg c] at e
    refine xw_ald (show xm_Imp g Γ 9 (xi_ald 0 10) from xs_aload_n hΓ dX4_cx_9) rfl ?_
    refine xw_ild (show xm_Imp g Γ 10 (xi_ild 2 11) from xs_iload_n hΓ dX4_cx_10) rfl ?_
    obtain ⟨_, e0, e⟩ := xo_b_s e
    obtain ⟨v8, e1, e⟩ := xo_b_s e
    refine xw_hv1 (o := (some p0)) (show xm_Imp g Γ 11 (xi_vir g 3 M_X4_hasZ 2 1 14) from xs_invV hG hΓ k_X4_hasZ rfl (ci := 3) rfl q1494 q1496 qs29 dX4_cx_11) rfl rfl e0 (fun Q X hQ => K_X4_hasZ hG p0 p2 _ e1 hQ) ?_
    refine xw_if (show xm_Imp g Γ 14 (xi_if (fun x => x = 0) 34 17) from xs_if_eq hΓ dX4_cx_14 (by decide)) (fun c => ?_) (fun c => ?_)
    · rw [if_pos c] at e
      exact hB_34 _ _ _ _ _ _ e hp
    · rw [if_neg c] at e
      refine xw_ald (show xm_Imp g Γ 17 (xi_ald 0 18) from xs_aload_n hΓ dX4_cx_17) rfl ?_
      refine xw_ild (show xm_Imp g Γ 18 (xi_ild 2 19) from xs_iload_n hΓ dX4_cx_18) rfl ?_
      obtain ⟨_, e0, e⟩ := xo_b_s e
      obtain ⟨v9, e1, e⟩ := xo_b_s e
      refine xw_hv1 (o := (some p0)) (show xm_Imp g Γ 19 (xi_vir g 3 M_X4_hasX 2 1 22) from xs_invV hG hΓ k_X4_hasX rfl (ci := 3) rfl q1489 q1491 qs28 dX4_cx_19) rfl rfl e0 (fun Q X hQ => K_X4_hasX hG p0 p2 _ e1 hQ) ?_
      refine xw_ald (show xm_Imp g Γ 22 (xi_ald 0 23) from xs_aload_n hΓ dX4_cx_22) rfl ?_
      refine xw_ild (show xm_Imp g Γ 23 (xi_ild 1 24) from xs_iload_n hΓ dX4_cx_23) rfl ?_
      obtain ⟨_, e0, e⟩ := xo_b_s e
      obtain ⟨v10, e1, e⟩ := xo_b_s e
      refine xw_hv1 (o := (some p0)) (show xm_Imp g Γ 24 (xi_vir g 3 M_X4_hasZ 2 1 27) from xs_invV hG hΓ k_X4_hasZ rfl (ci := 3) rfl q1494 q1496 qs29 dX4_cx_24) rfl rfl e0 (fun Q X hQ => K_X4_hasZ hG p0 p1 _ e1 hQ) ?_
      refine xw_ic (show xm_Imp g Γ 27 (xi_ic (fun x y => x = y) 30 34) from xs_icmp_ne hΓ dX4_cx_27 (by decide)) (fun c => ?_) (fun c => ?_)
      · rw [if_pos c] at e
        refine xw_psh (v := (.int (1))) (show xm_Imp g Γ 30 (xi_psh (.int (1)) 31) from xs_iconst hΓ dX4_cx_30 (by decide)) ?_
        refine xw_goto (show xm_Imp g Γ 31 (xi_goto 35) from xs_goto hΓ dX4_cx_31 (by decide)) ?_
        exact hB_35 _ _ _ _ _ _ _ e hp
      · rw [if_neg c] at e
        refine xw_psh (v := (.int (0))) (show xm_Imp g Γ 34 (xi_psh (.int (0)) 35) from xs_iconst hΓ dX4_cx_34 (by decide)) ?_
        exact hB_35 _ _ _ _ _ _ _ e hp
noncomputable def F_X1_lambda_gateOf_6 (g : xm_G) (p0 : Option Nat) (p1 : Int32) (p2 : Int32) (h : xm_H) : Option (xm_H) :=
 xo_b p0 (fun a1 =>
 xo_b (xh_is 3 h a1) (fun _ =>
 xo_b (F_X4_cx g a1 p1 p2 h) (fun v2 =>
 some v2)))
set_option maxHeartbeats 4000000 in
theorem K_X1_lambda_gateOf_6 {g : xm_G} (hG : xm_Gw g) (p0 : Option Nat) (p1 : Int32) (p2 : Int32) (h : xm_H) {o : xm_H} (e : F_X1_lambda_gateOf_6 g p0 p1 p2 h = some o) {Q : xm_P} {X : xm_X} (hQ : Q none o) : xm_Run g M_X1_lambda_gateOf_6 4 [va_rf p0, .int p1, .int p2] h 0 0 Q X := by
  refine xm_Run.of2 (ls := [some (va_rf p0), some (.int p1), some (.int p2)]) pn_StringTableau (by cases p0 <;> exact Nat.le_of_ble_eq_true rfl) (by cases p0 <;> rfl) (fun Γ hΓ => ?_)
  obtain ⟨P0, hP0, hp⟩ : ∃ P : xm_H → Prop, (∀ o, P o → Q none o) ∧ P o := ⟨fun o => Q none o, fun _ h => h, hQ⟩
  clear hQ
  show xm_W g Γ 0 [some (va_rf p0), some (.int p1), some (.int p2)] [] h 0 0
  unfold F_X1_lambda_gateOf_6 at e
  refine xw_aldo (x := p0) (show xm_Imp g Γ 0 (xi_ald 0 1) from xs_aload_n hΓ dX1_lambda_gateOf_6_0) rfl ?_
  refine xw_ild (show xm_Imp g Γ 1 (xi_ild 1 2) from xs_iload_n hΓ dX1_lambda_gateOf_6_1) rfl ?_
  refine xw_ild (show xm_Imp g Γ 2 (xi_ild 2 3) from xs_iload_n hΓ dX1_lambda_gateOf_6_2) rfl ?_
  obtain ⟨a1, ha1, e⟩ := xo_b_s e
  obtain ⟨_, e0, e⟩ := xo_b_s e
  obtain ⟨v2, e1, e⟩ := xo_b_s e
  refine xw_hu2 (o := p0) (show xm_Imp g Γ 3 (xi_vir g 3 M_X4_cx 3 2 6) from xs_invV hG hΓ k_X4_cx rfl (ci := 3) rfl q1529 q1530 q1531 dX1_lambda_gateOf_6_3) (by simp [xm_stk, xv_cat, xc_int, xc_long, xc_float, xc_double, xc_ref]) ha1 e0 (fun Q X hQ => K_X4_cx hG a1 p1 p2 _ e1 hQ) ?_
  exact xw_vret (show xm_Imp g Γ 6 (xi_vret _) from xs_return hΓ rfl dX1_lambda_gateOf_6_6) (hP0 _ (xl_fin e hp))
noncomputable def B_X4_cz_35 (g : xm_G) (l0 : Nat) (l1 : Int32) (l2 : Int32) (s0 : Option Nat) (s1 : Int32) (h : xm_H) : Option (xm_H) :=
 xo_b s0 (fun a2 =>
 xo_b (xh_is 3 h a2) (fun _ =>
 xo_b (F_X4_flipIf g a2 s1 h) (fun v3 =>
 xo_b (xh_is 3 v3 l0) (fun _ =>
 xo_b (F_X4_hasX g l0 l2 v3) (fun v4 =>
 xo_b (xh_is 3 v3 l0) (fun _ =>
 xo_b (F_X4_flipZ g l0 l1 v4 v3) (fun v5 =>
 xo_b (xh_is 3 v5 l0) (fun _ =>
 xo_b (F_X4_hasX g l0 l1 v5) (fun v6 =>
 xo_b (xh_is 3 v5 l0) (fun _ =>
 xo_b (F_X4_flipZ g l0 l2 v6 v5) (fun v7 =>
 some v7)))))))))))
noncomputable def B_X4_cz_34 (g : xm_G) (l0 : Nat) (l1 : Int32) (l2 : Int32) (s0 : Option Nat) (h : xm_H) : Option (xm_H) :=
 B_X4_cz_35 g l0 l1 l2 s0 0 h
noncomputable def F_X4_cz (g : xm_G) (p0 : Nat) (p1 : Int32) (p2 : Int32) (h : xm_H) : Option (xm_H) :=
 xo_b (xh_is 3 h p0) (fun _ =>
 xo_b (F_X4_hasX g p0 p1 h) (fun v1 =>
 (if v1 = 0 then
 B_X4_cz_34 g p0 p1 p2 (some p0) h else
 xo_b (xh_is 3 h p0) (fun _ =>
 xo_b (F_X4_hasX g p0 p2 h) (fun v8 =>
 (if v8 = 0 then
 B_X4_cz_34 g p0 p1 p2 (some p0) h else
 xo_b (xh_is 3 h p0) (fun _ =>
 xo_b (F_X4_hasZ g p0 p1 h) (fun v9 =>
 xo_b (xh_is 3 h p0) (fun _ =>
 xo_b (F_X4_hasZ g p0 p2 h) (fun v10 =>
 B_X4_cz_35 g p0 p1 p2 (some p0) (if v9 = v10 then 0 else 1) h))))))))))
set_option maxHeartbeats 4000000 in
theorem K_X4_cz {g : xm_G} (hG : xm_Gw g) (p0 : Nat) (p1 : Int32) (p2 : Int32) (h : xm_H) {o : xm_H} (e : F_X4_cz g p0 p1 p2 h = some o) {Q : xm_P} {X : xm_X} (hQ : Q none o) : xm_Run g M_X4_cz 3 [.ref p0, .int p1, .int p2] h 0 0 Q X := by
  refine xm_Run.of pn_StringTableau_Row (Nat.le_of_ble_eq_true rfl) (fun Γ hΓ => ?_)
  obtain ⟨P0, hP0, hp⟩ : ∃ P : xm_H → Prop, (∀ o, P o → Q none o) ∧ P o := ⟨fun o => Q none o, fun _ h => h, hQ⟩
  clear hQ
  show xm_W g Γ 0 [some (.ref p0), some (.int p1), some (.int p2)] [] h 0 0
  have hB_35 : ∀ (l0 : Nat) (l1 : Int32) (l2 : Int32) (s0 : Option Nat) (s1 : Int32) (h : xm_H) (o : xm_H), B_X4_cz_35 g l0 l1 l2 s0 s1 h = some o → P0 o → xm_W g Γ 35 [some (.ref l0), some (.int l1), some (.int l2)] [.int s1, va_rf s0] h 0 0 := by
    intro l0 l1 l2 s0 s1 h o e hp
    unfold B_X4_cz_35 at e
    obtain ⟨a2, ha2, e⟩ := xo_b_s e
    obtain ⟨_, e0, e⟩ := xo_b_s e
    obtain ⟨v3, e1, e⟩ := xo_b_s e
    refine xw_hu1 (o := s0) (show xm_Imp g Γ 35 (xi_vir g 3 M_X4_flipIf 1 1 38) from xs_invV hG hΓ k_X4_flipIf rfl (ci := 3) rfl q1498 q1499 q1500 dX4_cz_35) (by simp [xm_stk, xv_cat, xc_int, xc_long, xc_float, xc_double, xc_ref]) ha2 e0 (fun Q X hQ => K_X4_flipIf hG a2 s1 _ e1 hQ) ?_
    refine xw_ald (show xm_Imp g Γ 38 (xi_ald 0 39) from xs_aload_n hΓ dX4_cz_38) rfl ?_
    refine xw_ild (show xm_Imp g Γ 39 (xi_ild 1 40) from xs_iload_n hΓ dX4_cz_39) rfl ?_
    refine xw_ald (show xm_Imp g Γ 40 (xi_ald 0 41) from xs_aload_n hΓ dX4_cz_40) rfl ?_
    refine xw_ild (show xm_Imp g Γ 41 (xi_ild 2 42) from xs_iload_n hΓ dX4_cz_41) rfl ?_
    obtain ⟨_, e0, e⟩ := xo_b_s e
    obtain ⟨v4, e1, e⟩ := xo_b_s e
    refine xw_hv1 (o := (some l0)) (show xm_Imp g Γ 42 (xi_vir g 3 M_X4_hasX 2 1 45) from xs_invV hG hΓ k_X4_hasX rfl (ci := 3) rfl q1489 q1491 qs28 dX4_cz_42) rfl rfl e0 (fun Q X hQ => K_X4_hasX hG l0 l2 _ e1 hQ) ?_
    obtain ⟨_, e0, e⟩ := xo_b_s e
    obtain ⟨v5, e1, e⟩ := xo_b_s e
    refine xw_hu2 (o := (some l0)) (show xm_Imp g Γ 45 (xi_vir g 3 M_X4_flipZ 1 2 48) from xs_invV hG hΓ k_X4_flipZ rfl (ci := 3) rfl q1506 q1508 qs31 dX4_cz_45) rfl rfl e0 (fun Q X hQ => K_X4_flipZ hG l0 l1 v4 _ e1 hQ) ?_
    refine xw_ald (show xm_Imp g Γ 48 (xi_ald 0 49) from xs_aload_n hΓ dX4_cz_48) rfl ?_
    refine xw_ild (show xm_Imp g Γ 49 (xi_ild 2 50) from xs_iload_n hΓ dX4_cz_49) rfl ?_
    refine xw_ald (show xm_Imp g Γ 50 (xi_ald 0 51) from xs_aload_n hΓ dX4_cz_50) rfl ?_
    refine xw_ild (show xm_Imp g Γ 51 (xi_ild 1 52) from xs_iload_n hΓ dX4_cz_51) rfl ?_
    obtain ⟨_, e0, e⟩ := xo_b_s e
    obtain ⟨v6, e1, e⟩ := xo_b_s e
    refine xw_hv1 (o := (some l0)) (show xm_Imp g Γ 52 (xi_vir g 3 M_X4_hasX 2 1 55) from xs_invV hG hΓ k_X4_hasX rfl (ci := 3) rfl q1489 q1491 qs28 dX4_cz_52) rfl rfl e0 (fun Q X hQ => K_X4_hasX hG l0 l1 _ e1 hQ) ?_
    obtain ⟨_, e0, e⟩ := xo_b_s e
    obtain ⟨v7, e1, e⟩ := xo_b_s e
    refine xw_hu2 (o := (some l0)) (show xm_Imp g Γ 55 (xi_vir g 3 M_X4_flipZ 1 2 58) from xs_invV hG hΓ k_X4_flipZ rfl (ci := 3) rfl q1506 q1508 qs31 dX4_cz_55) rfl rfl e0 (fun Q X hQ => K_X4_flipZ hG l0 l2 v6 _ e1 hQ) ?_
    exact xw_vret (show xm_Imp g Γ 58 (xi_vret _) from xs_return hΓ rfl dX4_cz_58) (hP0 _ (xl_fin e hp))
  have hB_34 : ∀ (l0 : Nat) (l1 : Int32) (l2 : Int32) (s0 : Option Nat) (h : xm_H) (o : xm_H), B_X4_cz_34 g l0 l1 l2 s0 h = some o → P0 o → xm_W g Γ 34 [some (.ref l0), some (.int l1), some (.int l2)] [va_rf s0] h 0 0 := by
    intro l0 l1 l2 s0 h o e hp
    unfold B_X4_cz_34 at e
    refine xw_psh (v := (.int (0))) (show xm_Imp g Γ 34 (xi_psh (.int (0)) 35) from xs_iconst hΓ dX4_cz_34 (by decide)) ?_
    exact hB_35 _ _ _ _ _ _ _ e hp
  unfold F_X4_cz at e
  refine xw_ald (show xm_Imp g Γ 0 (xi_ald 0 1) from xs_aload_n hΓ dX4_cz_0) rfl ?_
  refine xw_ald (show xm_Imp g Γ 1 (xi_ald 0 2) from xs_aload_n hΓ dX4_cz_1) rfl ?_
  refine xw_ild (show xm_Imp g Γ 2 (xi_ild 1 3) from xs_iload_n hΓ dX4_cz_2) rfl ?_
  obtain ⟨_, e0, e⟩ := xo_b_s e
  obtain ⟨v1, e1, e⟩ := xo_b_s e
  refine xw_hv1 (o := (some p0)) (show xm_Imp g Γ 3 (xi_vir g 3 M_X4_hasX 2 1 6) from xs_invV hG hΓ k_X4_hasX rfl (ci := 3) rfl q1489 q1491 qs28 dX4_cz_3) rfl rfl e0 (fun Q X hQ => K_X4_hasX hG p0 p1 _ e1 hQ) ?_
  refine xw_if (show xm_Imp g Γ 6 (xi_if (fun x => x = 0) 34 9) from xs_if_eq hΓ dX4_cz_6 (by decide)) (fun c => ?_) (fun c => ?_)
  · rw [if_pos c] at e
    exact hB_34 _ _ _ _ _ _ e hp
  · rw [if_neg c] at e
    refine xw_ald (show xm_Imp g Γ 9 (xi_ald 0 10) from xs_aload_n hΓ dX4_cz_9) rfl ?_
    refine xw_ild (show xm_Imp g Γ 10 (xi_ild 2 11) from xs_iload_n hΓ dX4_cz_10) rfl ?_
    obtain ⟨_, e0, e⟩ := xo_b_s e
    obtain ⟨v8, e1, e⟩ := xo_b_s e
    refine xw_hv1 (o := (some p0)) (show xm_Imp g Γ 11 (xi_vir g 3 M_X4_hasX 2 1 14) from xs_invV hG hΓ k_X4_hasX rfl (ci := 3) rfl q1489 q1491 qs28 dX4_cz_11) rfl rfl e0 (fun Q X hQ => K_X4_hasX hG p0 p2 _ e1 hQ) ?_
    refine xw_if (show xm_Imp g Γ 14 (xi_if (fun x => x = 0) 34 17) from xs_if_eq hΓ dX4_cz_14 (by decide)) (fun c => ?_) (fun c => ?_)
    · rw [if_pos c] at e
      exact hB_34 _ _ _ _ _ _ e hp
    · rw [if_neg c] at e
      refine xw_ald (show xm_Imp g Γ 17 (xi_ald 0 18) from xs_aload_n hΓ dX4_cz_17) rfl ?_
      refine xw_ild (show xm_Imp g Γ 18 (xi_ild 1 19) from xs_iload_n hΓ dX4_cz_18) rfl ?_
      obtain ⟨_, e0, e⟩ := xo_b_s e
      obtain ⟨v9, e1, e⟩ := xo_b_s e
      refine xw_hv1 (o := (some p0)) (show xm_Imp g Γ 19 (xi_vir g 3 M_X4_hasZ 2 1 22) from xs_invV hG hΓ k_X4_hasZ rfl (ci := 3) rfl q1494 q1496 qs29 dX4_cz_19) rfl rfl e0 (fun Q X hQ => K_X4_hasZ hG p0 p1 _ e1 hQ) ?_
      refine xw_ald (show xm_Imp g Γ 22 (xi_ald 0 23) from xs_aload_n hΓ dX4_cz_22) rfl ?_
      refine xw_ild (show xm_Imp g Γ 23 (xi_ild 2 24) from xs_iload_n hΓ dX4_cz_23) rfl ?_
      obtain ⟨_, e0, e⟩ := xo_b_s e
      obtain ⟨v10, e1, e⟩ := xo_b_s e
      refine xw_hv1 (o := (some p0)) (show xm_Imp g Γ 24 (xi_vir g 3 M_X4_hasZ 2 1 27) from xs_invV hG hΓ k_X4_hasZ rfl (ci := 3) rfl q1494 q1496 qs29 dX4_cz_24) rfl rfl e0 (fun Q X hQ => K_X4_hasZ hG p0 p2 _ e1 hQ) ?_
      refine xw_ic (show xm_Imp g Γ 27 (xi_ic (fun x y => x = y) 34 30) from xs_icmp_eq hΓ dX4_cz_27 (by decide)) (fun c => ?_) (fun c => ?_)
      · rw [if_pos c] at e
        refine xw_psh (v := (.int (0))) (show xm_Imp g Γ 34 (xi_psh (.int (0)) 35) from xs_iconst hΓ dX4_cz_34 (by decide)) ?_
        exact hB_35 _ _ _ _ _ _ _ e hp
      · rw [if_neg c] at e
        refine xw_psh (v := (.int (1))) (show xm_Imp g Γ 30 (xi_psh (.int (1)) 31) from xs_iconst hΓ dX4_cz_30 (by decide)) ?_
        refine xw_goto (show xm_Imp g Γ 31 (xi_goto 35) from xs_goto hΓ dX4_cz_31 (by decide)) ?_
        exact hB_35 _ _ _ _ _ _ _ e hp
noncomputable def F_X1_lambda_gateOf_7 (g : xm_G) (p0 : Option Nat) (p1 : Int32) (p2 : Int32) (h : xm_H) : Option (xm_H) :=
 xo_b p0 (fun a1 =>
 xo_b (xh_is 3 h a1) (fun _ =>
 xo_b (F_X4_cz g a1 p1 p2 h) (fun v2 =>
 some v2)))
set_option maxHeartbeats 4000000 in
theorem K_X1_lambda_gateOf_7 {g : xm_G} (hG : xm_Gw g) (p0 : Option Nat) (p1 : Int32) (p2 : Int32) (h : xm_H) {o : xm_H} (e : F_X1_lambda_gateOf_7 g p0 p1 p2 h = some o) {Q : xm_P} {X : xm_X} (hQ : Q none o) : xm_Run g M_X1_lambda_gateOf_7 4 [va_rf p0, .int p1, .int p2] h 0 0 Q X := by
  refine xm_Run.of2 (ls := [some (va_rf p0), some (.int p1), some (.int p2)]) pn_StringTableau (by cases p0 <;> exact Nat.le_of_ble_eq_true rfl) (by cases p0 <;> rfl) (fun Γ hΓ => ?_)
  obtain ⟨P0, hP0, hp⟩ : ∃ P : xm_H → Prop, (∀ o, P o → Q none o) ∧ P o := ⟨fun o => Q none o, fun _ h => h, hQ⟩
  clear hQ
  show xm_W g Γ 0 [some (va_rf p0), some (.int p1), some (.int p2)] [] h 0 0
  unfold F_X1_lambda_gateOf_7 at e
  refine xw_aldo (x := p0) (show xm_Imp g Γ 0 (xi_ald 0 1) from xs_aload_n hΓ dX1_lambda_gateOf_7_0) rfl ?_
  refine xw_ild (show xm_Imp g Γ 1 (xi_ild 1 2) from xs_iload_n hΓ dX1_lambda_gateOf_7_1) rfl ?_
  refine xw_ild (show xm_Imp g Γ 2 (xi_ild 2 3) from xs_iload_n hΓ dX1_lambda_gateOf_7_2) rfl ?_
  obtain ⟨a1, ha1, e⟩ := xo_b_s e
  obtain ⟨_, e0, e⟩ := xo_b_s e
  obtain ⟨v2, e1, e⟩ := xo_b_s e
  refine xw_hu2 (o := p0) (show xm_Imp g Γ 3 (xi_vir g 3 M_X4_cz 3 2 6) from xs_invV hG hΓ k_X4_cz rfl (ci := 3) rfl q1535 q1536 q1537 dX1_lambda_gateOf_7_3) (by simp [xm_stk, xv_cat, xc_int, xc_long, xc_float, xc_double, xc_ref]) ha1 e0 (fun Q X hQ => K_X4_cz hG a1 p1 p2 _ e1 hQ) ?_
  exact xw_vret (show xm_Imp g Γ 6 (xi_vret _) from xs_return hΓ rfl dX1_lambda_gateOf_7_6) (hP0 _ (xl_fin e hp))
noncomputable def B_X4_swap_37 (g : xm_G) (l0 : Nat) (l1 : Int32) (l2 : Int32) (l3 : Int32) (s0 : Int32) (h : xm_H) : Option (xm_H) :=
 xo_b (xh_is 3 h l0) (fun _ =>
 xo_b (F_X4_flipX g l0 l1 l3 h) (fun v5 =>
 xo_b (xh_is 3 v5 l0) (fun _ =>
 xo_b (F_X4_flipX g l0 l2 l3 v5) (fun v6 =>
 xo_b (xh_is 3 v6 l0) (fun _ =>
 xo_b (F_X4_flipZ g l0 l1 s0 v6) (fun v7 =>
 xo_b (xh_is 3 v7 l0) (fun _ =>
 xo_b (F_X4_flipZ g l0 l2 s0 v7) (fun v8 =>
 some v8))))))))
noncomputable def B_X4_swap_18 (g : xm_G) (l0 : Nat) (l1 : Int32) (l2 : Int32) (s0 : Int32) (h : xm_H) : Option (xm_H) :=
 xo_b (xh_is 3 h l0) (fun _ =>
 xo_b (F_X4_hasZ g l0 l1 h) (fun v3 =>
 xo_b (xh_is 3 h l0) (fun _ =>
 xo_b (F_X4_hasZ g l0 l2 h) (fun v4 =>
 B_X4_swap_37 g l0 l1 l2 s0 (if v3 = v4 then 0 else 1) h))))
noncomputable def F_X4_swap (g : xm_G) (p0 : Nat) (p1 : Int32) (p2 : Int32) (h : xm_H) : Option (xm_H) :=
 xo_b (xh_is 3 h p0) (fun _ =>
 xo_b (F_X4_hasX g p0 p1 h) (fun v1 =>
 xo_b (xh_is 3 h p0) (fun _ =>
 xo_b (F_X4_hasX g p0 p2 h) (fun v2 =>
 B_X4_swap_18 g p0 p1 p2 (if v1 = v2 then 0 else 1) h))))
set_option maxHeartbeats 4000000 in
theorem K_X4_swap {g : xm_G} (hG : xm_Gw g) (p0 : Nat) (p1 : Int32) (p2 : Int32) (h : xm_H) {o : xm_H} (e : F_X4_swap g p0 p1 p2 h = some o) {Q : xm_P} {X : xm_X} (hQ : Q none o) : xm_Run g M_X4_swap 3 [.ref p0, .int p1, .int p2] h 0 0 Q X := by
  refine xm_Run.of pn_StringTableau_Row (Nat.le_of_ble_eq_true rfl) (fun Γ hΓ => ?_)
  obtain ⟨P0, hP0, hp⟩ : ∃ P : xm_H → Prop, (∀ o, P o → Q none o) ∧ P o := ⟨fun o => Q none o, fun _ h => h, hQ⟩
  clear hQ
  show xm_W g Γ 0 [some (.ref p0), some (.int p1), some (.int p2), none, none] [] h 0 0
  have hB_37 : ∀ (l0 : Nat) (l1 : Int32) (l2 : Int32) (l3 : Int32) (s0 : Int32) (h : xm_H) (o : xm_H), B_X4_swap_37 g l0 l1 l2 l3 s0 h = some o → P0 o → xm_W g Γ 37 [some (.ref l0), some (.int l1), some (.int l2), some (.int l3), none] [.int s0] h 0 0 := by
    intro l0 l1 l2 l3 s0 h o e hp
    unfold B_X4_swap_37 at e
    refine xw_ist (ls' := [some (.ref l0), some (.int l1), some (.int l2), some (.int l3), some (.int s0)]) (show xm_Imp g Γ 37 (xi_ist 4 39) from xs_istore hΓ dX4_swap_37 (Nat.le_of_ble_eq_true rfl)) rfl ?_
    refine xw_ald (show xm_Imp g Γ 39 (xi_ald 0 40) from xs_aload_n hΓ dX4_swap_39) rfl ?_
    refine xw_ild (show xm_Imp g Γ 40 (xi_ild 1 41) from xs_iload_n hΓ dX4_swap_40) rfl ?_
    refine xw_ild (show xm_Imp g Γ 41 (xi_ild 3 42) from xs_iload_n hΓ dX4_swap_41) rfl ?_
    obtain ⟨_, e0, e⟩ := xo_b_s e
    obtain ⟨v5, e1, e⟩ := xo_b_s e
    refine xw_hu2 (o := (some l0)) (show xm_Imp g Γ 42 (xi_vir g 3 M_X4_flipX 1 2 45) from xs_invV hG hΓ k_X4_flipX rfl (ci := 3) rfl q1502 q1504 qs30 dX4_swap_42) rfl rfl e0 (fun Q X hQ => K_X4_flipX hG l0 l1 l3 _ e1 hQ) ?_
    refine xw_ald (show xm_Imp g Γ 45 (xi_ald 0 46) from xs_aload_n hΓ dX4_swap_45) rfl ?_
    refine xw_ild (show xm_Imp g Γ 46 (xi_ild 2 47) from xs_iload_n hΓ dX4_swap_46) rfl ?_
    refine xw_ild (show xm_Imp g Γ 47 (xi_ild 3 48) from xs_iload_n hΓ dX4_swap_47) rfl ?_
    obtain ⟨_, e0, e⟩ := xo_b_s e
    obtain ⟨v6, e1, e⟩ := xo_b_s e
    refine xw_hu2 (o := (some l0)) (show xm_Imp g Γ 48 (xi_vir g 3 M_X4_flipX 1 2 51) from xs_invV hG hΓ k_X4_flipX rfl (ci := 3) rfl q1502 q1504 qs30 dX4_swap_48) rfl rfl e0 (fun Q X hQ => K_X4_flipX hG l0 l2 l3 _ e1 hQ) ?_
    refine xw_ald (show xm_Imp g Γ 51 (xi_ald 0 52) from xs_aload_n hΓ dX4_swap_51) rfl ?_
    refine xw_ild (show xm_Imp g Γ 52 (xi_ild 1 53) from xs_iload_n hΓ dX4_swap_52) rfl ?_
    refine xw_ild (show xm_Imp g Γ 53 (xi_ild 4 55) from xs_iload hΓ dX4_swap_53) rfl ?_
    obtain ⟨_, e0, e⟩ := xo_b_s e
    obtain ⟨v7, e1, e⟩ := xo_b_s e
    refine xw_hu2 (o := (some l0)) (show xm_Imp g Γ 55 (xi_vir g 3 M_X4_flipZ 1 2 58) from xs_invV hG hΓ k_X4_flipZ rfl (ci := 3) rfl q1506 q1508 qs31 dX4_swap_55) rfl rfl e0 (fun Q X hQ => K_X4_flipZ hG l0 l1 s0 _ e1 hQ) ?_
    refine xw_ald (show xm_Imp g Γ 58 (xi_ald 0 59) from xs_aload_n hΓ dX4_swap_58) rfl ?_
    refine xw_ild (show xm_Imp g Γ 59 (xi_ild 2 60) from xs_iload_n hΓ dX4_swap_59) rfl ?_
    refine xw_ild (show xm_Imp g Γ 60 (xi_ild 4 62) from xs_iload hΓ dX4_swap_60) rfl ?_
    obtain ⟨_, e0, e⟩ := xo_b_s e
    obtain ⟨v8, e1, e⟩ := xo_b_s e
    refine xw_hu2 (o := (some l0)) (show xm_Imp g Γ 62 (xi_vir g 3 M_X4_flipZ 1 2 65) from xs_invV hG hΓ k_X4_flipZ rfl (ci := 3) rfl q1506 q1508 qs31 dX4_swap_62) rfl rfl e0 (fun Q X hQ => K_X4_flipZ hG l0 l2 s0 _ e1 hQ) ?_
    exact xw_vret (show xm_Imp g Γ 65 (xi_vret _) from xs_return hΓ rfl dX4_swap_65) (hP0 _ (xl_fin e hp))
  have hB_18 : ∀ (l0 : Nat) (l1 : Int32) (l2 : Int32) (s0 : Int32) (h : xm_H) (o : xm_H), B_X4_swap_18 g l0 l1 l2 s0 h = some o → P0 o → xm_W g Γ 18 [some (.ref l0), some (.int l1), some (.int l2), none, none] [.int s0] h 0 0 := by
    intro l0 l1 l2 s0 h o e hp
    unfold B_X4_swap_18 at e
    refine xw_ist (ls' := [some (.ref l0), some (.int l1), some (.int l2), some (.int s0), none]) (show xm_Imp g Γ 18 (xi_ist 3 19) from xs_istore_n hΓ dX4_swap_18 (Nat.le_of_ble_eq_true rfl)) rfl ?_
    refine xw_ald (show xm_Imp g Γ 19 (xi_ald 0 20) from xs_aload_n hΓ dX4_swap_19) rfl ?_
    refine xw_ild (show xm_Imp g Γ 20 (xi_ild 1 21) from xs_iload_n hΓ dX4_swap_20) rfl ?_
    obtain ⟨_, e0, e⟩ := xo_b_s e
    obtain ⟨v3, e1, e⟩ := xo_b_s e
    refine xw_hv1 (o := (some l0)) (show xm_Imp g Γ 21 (xi_vir g 3 M_X4_hasZ 2 1 24) from xs_invV hG hΓ k_X4_hasZ rfl (ci := 3) rfl q1494 q1496 qs29 dX4_swap_21) rfl rfl e0 (fun Q X hQ => K_X4_hasZ hG l0 l1 _ e1 hQ) ?_
    refine xw_ald (show xm_Imp g Γ 24 (xi_ald 0 25) from xs_aload_n hΓ dX4_swap_24) rfl ?_
    refine xw_ild (show xm_Imp g Γ 25 (xi_ild 2 26) from xs_iload_n hΓ dX4_swap_25) rfl ?_
    obtain ⟨_, e0, e⟩ := xo_b_s e
    obtain ⟨v4, e1, e⟩ := xo_b_s e
    refine xw_hv1 (o := (some l0)) (show xm_Imp g Γ 26 (xi_vir g 3 M_X4_hasZ 2 1 29) from xs_invV hG hΓ k_X4_hasZ rfl (ci := 3) rfl q1494 q1496 qs29 dX4_swap_26) rfl rfl e0 (fun Q X hQ => K_X4_hasZ hG l0 l2 _ e1 hQ) ?_
    refine xw_ic (show xm_Imp g Γ 29 (xi_ic (fun x y => x = y) 36 32) from xs_icmp_eq hΓ dX4_swap_29 (by decide)) (fun c => ?_) (fun c => ?_)
    · rw [if_pos c] at e
      refine xw_psh (v := (.int (0))) (show xm_Imp g Γ 36 (xi_psh (.int (0)) 37) from xs_iconst hΓ dX4_swap_36 (by decide)) ?_
      exact hB_37 _ _ _ _ _ _ _ e hp
    · rw [if_neg c] at e
      refine xw_psh (v := (.int (1))) (show xm_Imp g Γ 32 (xi_psh (.int (1)) 33) from xs_iconst hΓ dX4_swap_32 (by decide)) ?_
      refine xw_goto (show xm_Imp g Γ 33 (xi_goto 37) from xs_goto hΓ dX4_swap_33 (by decide)) ?_
      exact hB_37 _ _ _ _ _ _ _ e hp
  unfold F_X4_swap at e
  refine xw_ald (show xm_Imp g Γ 0 (xi_ald 0 1) from xs_aload_n hΓ dX4_swap_0) rfl ?_
  refine xw_ild (show xm_Imp g Γ 1 (xi_ild 1 2) from xs_iload_n hΓ dX4_swap_1) rfl ?_
  obtain ⟨_, e0, e⟩ := xo_b_s e
  obtain ⟨v1, e1, e⟩ := xo_b_s e
  refine xw_hv1 (o := (some p0)) (show xm_Imp g Γ 2 (xi_vir g 3 M_X4_hasX 2 1 5) from xs_invV hG hΓ k_X4_hasX rfl (ci := 3) rfl q1489 q1491 qs28 dX4_swap_2) rfl rfl e0 (fun Q X hQ => K_X4_hasX hG p0 p1 _ e1 hQ) ?_
  refine xw_ald (show xm_Imp g Γ 5 (xi_ald 0 6) from xs_aload_n hΓ dX4_swap_5) rfl ?_
  refine xw_ild (show xm_Imp g Γ 6 (xi_ild 2 7) from xs_iload_n hΓ dX4_swap_6) rfl ?_
  obtain ⟨_, e0, e⟩ := xo_b_s e
  obtain ⟨v2, e1, e⟩ := xo_b_s e
  refine xw_hv1 (o := (some p0)) (show xm_Imp g Γ 7 (xi_vir g 3 M_X4_hasX 2 1 10) from xs_invV hG hΓ k_X4_hasX rfl (ci := 3) rfl q1489 q1491 qs28 dX4_swap_7) rfl rfl e0 (fun Q X hQ => K_X4_hasX hG p0 p2 _ e1 hQ) ?_
  refine xw_ic (show xm_Imp g Γ 10 (xi_ic (fun x y => x = y) 17 13) from xs_icmp_eq hΓ dX4_swap_10 (by decide)) (fun c => ?_) (fun c => ?_)
  · rw [if_pos c] at e
    refine xw_psh (v := (.int (0))) (show xm_Imp g Γ 17 (xi_psh (.int (0)) 18) from xs_iconst hΓ dX4_swap_17 (by decide)) ?_
    exact hB_18 _ _ _ _ _ _ e hp
  · rw [if_neg c] at e
    refine xw_psh (v := (.int (1))) (show xm_Imp g Γ 13 (xi_psh (.int (1)) 14) from xs_iconst hΓ dX4_swap_13 (by decide)) ?_
    refine xw_goto (show xm_Imp g Γ 14 (xi_goto 18) from xs_goto hΓ dX4_swap_14 (by decide)) ?_
    exact hB_18 _ _ _ _ _ _ e hp
noncomputable def F_X1_lambda_gateOf_8 (g : xm_G) (p0 : Option Nat) (p1 : Int32) (p2 : Int32) (h : xm_H) : Option (xm_H) :=
 xo_b p0 (fun a1 =>
 xo_b (xh_is 3 h a1) (fun _ =>
 xo_b (F_X4_swap g a1 p1 p2 h) (fun v2 =>
 some v2)))
set_option maxHeartbeats 4000000 in
theorem K_X1_lambda_gateOf_8 {g : xm_G} (hG : xm_Gw g) (p0 : Option Nat) (p1 : Int32) (p2 : Int32) (h : xm_H) {o : xm_H} (e : F_X1_lambda_gateOf_8 g p0 p1 p2 h = some o) {Q : xm_P} {X : xm_X} (hQ : Q none o) : xm_Run g M_X1_lambda_gateOf_8 4 [va_rf p0, .int p1, .int p2] h 0 0 Q X := by
  refine xm_Run.of2 (ls := [some (va_rf p0), some (.int p1), some (.int p2)]) pn_StringTableau (by cases p0 <;> exact Nat.le_of_ble_eq_true rfl) (by cases p0 <;> rfl) (fun Γ hΓ => ?_)
  obtain ⟨P0, hP0, hp⟩ : ∃ P : xm_H → Prop, (∀ o, P o → Q none o) ∧ P o := ⟨fun o => Q none o, fun _ h => h, hQ⟩
  clear hQ
  show xm_W g Γ 0 [some (va_rf p0), some (.int p1), some (.int p2)] [] h 0 0
  unfold F_X1_lambda_gateOf_8 at e
  refine xw_aldo (x := p0) (show xm_Imp g Γ 0 (xi_ald 0 1) from xs_aload_n hΓ dX1_lambda_gateOf_8_0) rfl ?_
  refine xw_ild (show xm_Imp g Γ 1 (xi_ild 1 2) from xs_iload_n hΓ dX1_lambda_gateOf_8_1) rfl ?_
  refine xw_ild (show xm_Imp g Γ 2 (xi_ild 2 3) from xs_iload_n hΓ dX1_lambda_gateOf_8_2) rfl ?_
  obtain ⟨a1, ha1, e⟩ := xo_b_s e
  obtain ⟨_, e0, e⟩ := xo_b_s e
  obtain ⟨v2, e1, e⟩ := xo_b_s e
  refine xw_hu2 (o := p0) (show xm_Imp g Γ 3 (xi_vir g 3 M_X4_swap 3 2 6) from xs_invV hG hΓ k_X4_swap rfl (ci := 3) rfl q1541 q1542 q1543 dX1_lambda_gateOf_8_3) (by simp [xm_stk, xv_cat, xc_int, xc_long, xc_float, xc_double, xc_ref]) ha1 e0 (fun Q X hQ => K_X4_swap hG a1 p1 p2 _ e1 hQ) ?_
  exact xw_vret (show xm_Imp g Γ 6 (xi_vret _) from xs_return hΓ rfl dX1_lambda_gateOf_8_6) (hP0 _ (xl_fin e hp))
noncomputable def F_X3_lambda_canonical_0 (g : xm_G) (p0 : Option Nat) (p1 : Int32) (h : xm_H) : Option (Int32) :=
 xo_b p0 (fun a1 =>
 xo_b (xh_is 3 h a1) (fun _ =>
 xo_b (F_X4_hasX g a1 p1 h) (fun v2 =>
 xo_b (xb_chk .boolean v2) (fun _ =>
 some v2))))
set_option maxHeartbeats 4000000 in
theorem K_X3_lambda_canonical_0 {g : xm_G} (hG : xm_Gw g) (p0 : Option Nat) (p1 : Int32) (h : xm_H) {o : Int32} (e : F_X3_lambda_canonical_0 g p0 p1 h = some o) {Q : xm_P} {X : xm_X} (hQ : Q (some (.int o)) h) : xm_Run g M_X3_lambda_canonical_0 3 [va_rf p0, .int p1] h 0 0 Q X := by
  refine xm_Run.of2 (ls := [some (va_rf p0), some (.int p1)]) pn_StringTableau_Tableau (by cases p0 <;> exact Nat.le_of_ble_eq_true rfl) (by cases p0 <;> rfl) (fun Γ hΓ => ?_)
  obtain ⟨P0, hP0, hp⟩ : ∃ P : Int32 → Prop, (∀ o, P o → Q (some (.int o)) h) ∧ P o := ⟨fun o => Q (some (.int o)) h, fun _ h => h, hQ⟩
  clear hQ
  show xm_W g Γ 0 [some (va_rf p0), some (.int p1)] [] h 0 0
  unfold F_X3_lambda_canonical_0 at e
  refine xw_aldo (x := p0) (show xm_Imp g Γ 0 (xi_ald 0 1) from xs_aload_n hΓ dX3_lambda_canonical_0_0) rfl ?_
  refine xw_ild (show xm_Imp g Γ 1 (xi_ild 1 2) from xs_iload_n hΓ dX3_lambda_canonical_0_1) rfl ?_
  obtain ⟨a1, ha1, e⟩ := xo_b_s e
  obtain ⟨_, e0, e⟩ := xo_b_s e
  obtain ⟨v2, e1, e⟩ := xo_b_s e
  refine xw_hv1 (o := p0) (show xm_Imp g Γ 2 (xi_vir g 3 M_X4_hasX 2 1 5) from xs_invVN hG hΓ k_X4_hasX rfl (ci := 3) rfl q1609 q1491 qs28 dX3_lambda_canonical_0_2) (by simp [xm_stk, xv_cat, xc_int, xc_long, xc_float, xc_double, xc_ref]) ha1 e0 (fun Q X hQ => K_X4_hasX hG a1 p1 _ e1 hQ) ?_
  obtain ⟨_, e1, e⟩ := xo_b_s e
  have hq := hP0 _ (xl_fin e hp)
  exact xw_iret (show xm_Imp g Γ 5 (xi_iret .boolean _) from xs_ireturn hΓ rfl dX3_lambda_canonical_0_5) (xb_of e1) hq
noncomputable def F_X3_lambda_canonical_1 (g : xm_G) (p0 : Option Nat) (p1 : Int32) (h : xm_H) : Option (Int32) :=
 xo_b p0 (fun a1 =>
 xo_b (xh_is 3 h a1) (fun _ =>
 xo_b (F_X4_hasZ g a1 p1 h) (fun v2 =>
 xo_b (xb_chk .boolean v2) (fun _ =>
 some v2))))
set_option maxHeartbeats 4000000 in
theorem K_X3_lambda_canonical_1 {g : xm_G} (hG : xm_Gw g) (p0 : Option Nat) (p1 : Int32) (h : xm_H) {o : Int32} (e : F_X3_lambda_canonical_1 g p0 p1 h = some o) {Q : xm_P} {X : xm_X} (hQ : Q (some (.int o)) h) : xm_Run g M_X3_lambda_canonical_1 3 [va_rf p0, .int p1] h 0 0 Q X := by
  refine xm_Run.of2 (ls := [some (va_rf p0), some (.int p1)]) pn_StringTableau_Tableau (by cases p0 <;> exact Nat.le_of_ble_eq_true rfl) (by cases p0 <;> rfl) (fun Γ hΓ => ?_)
  obtain ⟨P0, hP0, hp⟩ : ∃ P : Int32 → Prop, (∀ o, P o → Q (some (.int o)) h) ∧ P o := ⟨fun o => Q (some (.int o)) h, fun _ h => h, hQ⟩
  clear hQ
  show xm_W g Γ 0 [some (va_rf p0), some (.int p1)] [] h 0 0
  unfold F_X3_lambda_canonical_1 at e
  refine xw_aldo (x := p0) (show xm_Imp g Γ 0 (xi_ald 0 1) from xs_aload_n hΓ dX3_lambda_canonical_1_0) rfl ?_
  refine xw_ild (show xm_Imp g Γ 1 (xi_ild 1 2) from xs_iload_n hΓ dX3_lambda_canonical_1_1) rfl ?_
  obtain ⟨a1, ha1, e⟩ := xo_b_s e
  obtain ⟨_, e0, e⟩ := xo_b_s e
  obtain ⟨v2, e1, e⟩ := xo_b_s e
  refine xw_hv1 (o := p0) (show xm_Imp g Γ 2 (xi_vir g 3 M_X4_hasZ 2 1 5) from xs_invVN hG hΓ k_X4_hasZ rfl (ci := 3) rfl q1620 q1496 qs29 dX3_lambda_canonical_1_2) (by simp [xm_stk, xv_cat, xc_int, xc_long, xc_float, xc_double, xc_ref]) ha1 e0 (fun Q X hQ => K_X4_hasZ hG a1 p1 _ e1 hQ) ?_
  obtain ⟨_, e1, e⟩ := xo_b_s e
  have hq := hP0 _ (xl_fin e hp)
  exact xw_iret (show xm_Imp g Γ 5 (xi_iret .boolean _) from xs_ireturn hΓ rfl dX3_lambda_canonical_1_5) (xb_of e1) hq
