/-! METHODS ON KNOWN CELLS as functions (printed by gen/mkhfun.py) -/
set_option maxRecDepth 100000
noncomputable def F_J4_ensureCapacityInternal (g : xm_G) (p0 : Nat) (p1 : Int32) (h : xm_H) (bc : Nat) (bs : Nat) (Q : xm_H → Prop) : Prop :=
 xt_b (xh_fr [(14, 0)] h p0) (fun v1 =>
 xt_b v1 (fun a2 =>
 xt_b (xh_len h a2) (fun v3 =>
 xt_b (xh_fi [(14, 1)] h p0) (fun v4 =>
 (if (p1 - (v3 >>> (v4 &&& 31))) ≤ 0 then
 Q h else
 xt_b (xh_fr [(14, 0)] h p0) (fun v5 =>
 xt_b (xh_is 14 h p0) (fun _ =>
 xt_b (F_J4_newCapacity g p0 p1 h) (fun v6 =>
 xt_b (xh_fi [(14, 1)] h p0) (fun v7 =>
 xt_c bc bs (fun m8 m9 => F_J10_copyOf g v5 (v6 <<< (v7 &&& 31)) h m8 m9 (fun v11 h10 =>
 xt_b (xh_w [(14, 0)] h10 p0 (va_rf v11)) (fun h12 =>
 Q h12))))))))))))
set_option maxHeartbeats 4000000 in
theorem K_J4_ensureCapacityInternal {g : xm_G} (hG : xm_Gw g) (p0 : Nat) (p1 : Int32) (h : xm_H) (bc : Nat) (bs : Nat) {Q : xm_H → Prop} (e : F_J4_ensureCapacityInternal g p0 p1 h bc bs Q) : xm_Run g M_J4_ensureCapacityInternal 9 [.ref p0, .int p1] h bc bs (fun v h' => v = none ∧ Q h') xm_no := by
  refine xm_Run.of pn_java_lang_AbstractStringBuilder (Nat.le_of_ble_eq_true rfl) (fun Γ hΓ => ?_)
  show xm_W g Γ 0 [some (.ref p0), some (.int p1), none] [] h bc bs
  unfold F_J4_ensureCapacityInternal at e
  refine xw_ald (show xm_Imp g Γ 0 (xi_ald 0 1) from xs_aload_n hΓ dJ4_ensureCapacityInternal_0) rfl ?_
  obtain ⟨v1, e1, e⟩ := e
  refine xw_gr1 (o := (some p0)) (show xm_Imp g Γ 1 (xi_get 14 0 4) from xs_get hG hΓ (ci := 14) (kf := 0) rfl (Nat.le_of_ble_eq_true rfl) q328 dJ4_ensureCapacityInternal_1) rfl e1 ?_
  obtain ⟨a2, ha2, e⟩ := e
  obtain ⟨v3, e1, e⟩ := e
  refine xw_hlen (o := v1) (show xm_Imp g Γ 4 (xi_len 5) from xs_len hG hΓ dJ4_ensureCapacityInternal_4) ha2 e1 ?_
  refine xw_ald (show xm_Imp g Γ 5 (xi_ald 0 6) from xs_aload_n hΓ dJ4_ensureCapacityInternal_5) rfl ?_
  obtain ⟨v4, e1, e⟩ := e
  refine xw_gi1 (o := (some p0)) (show xm_Imp g Γ 6 (xi_get 14 1 9) from xs_get hG hΓ (ci := 14) (kf := 1) rfl (Nat.le_of_ble_eq_true rfl) q329 dJ4_ensureCapacityInternal_6) rfl e1 ?_
  refine xw_ii (show xm_Imp g Γ 9 (xi_ii (fun x y => x >>> (y &&& 31)) 10) from xs_ishr hΓ dJ4_ensureCapacityInternal_9) ?_
  refine xw_ist (ls' := [some (.ref p0), some (.int p1), some (.int (v3 >>> (v4 &&& 31)))]) (show xm_Imp g Γ 10 (xi_ist 2 11) from xs_istore_n hΓ dJ4_ensureCapacityInternal_10 (Nat.le_of_ble_eq_true rfl)) rfl ?_
  refine xw_ild (show xm_Imp g Γ 11 (xi_ild 1 12) from xs_iload_n hΓ dJ4_ensureCapacityInternal_11) rfl ?_
  refine xw_ild (show xm_Imp g Γ 12 (xi_ild 2 13) from xs_iload_n hΓ dJ4_ensureCapacityInternal_12) rfl ?_
  refine xw_ii (show xm_Imp g Γ 13 (xi_ii (fun x y => x - y) 14) from xs_isub hΓ dJ4_ensureCapacityInternal_13) ?_
  refine xw_if (show xm_Imp g Γ 14 (xi_if (fun x => x ≤ 0) 38 17) from xs_if_le hΓ dJ4_ensureCapacityInternal_14 (by decide)) (fun c => ?_) (fun c => ?_)
  · rw [if_pos c] at e
    exact xw_vret (show xm_Imp g Γ 38 (xi_vret _) from xs_return hΓ rfl dJ4_ensureCapacityInternal_38) ⟨rfl, e⟩
  · rw [if_neg c] at e
    refine xw_ald (show xm_Imp g Γ 17 (xi_ald 0 18) from xs_aload_n hΓ dJ4_ensureCapacityInternal_17) rfl ?_
    refine xw_ald (show xm_Imp g Γ 18 (xi_ald 0 19) from xs_aload_n hΓ dJ4_ensureCapacityInternal_18) rfl ?_
    obtain ⟨v5, e1, e⟩ := e
    refine xw_gr1 (o := (some p0)) (show xm_Imp g Γ 19 (xi_get 14 0 22) from xs_get hG hΓ (ci := 14) (kf := 0) rfl (Nat.le_of_ble_eq_true rfl) q328 dJ4_ensureCapacityInternal_19) rfl e1 ?_
    refine xw_ald (show xm_Imp g Γ 22 (xi_ald 0 23) from xs_aload_n hΓ dJ4_ensureCapacityInternal_22) rfl ?_
    refine xw_ild (show xm_Imp g Γ 23 (xi_ild 1 24) from xs_iload_n hΓ dJ4_ensureCapacityInternal_23) rfl ?_
    obtain ⟨_, e0, e⟩ := e
    obtain ⟨v6, e1, e⟩ := e
    refine xw_hv1 (o := (some p0)) (show xm_Imp g Γ 24 (xi_vir g 14 M_J4_newCapacity 8 1 27) from xs_invVp hG hΓ k_J4_newCapacity rfl (ci := 14) rfl q430 q432 q464 rfl q431 dJ4_ensureCapacityInternal_24) (by simp [xm_stk, xv_cat, xc_int, xc_long, xc_float, xc_double, xc_ref]) rfl e0 (fun Q X hQ => K_J4_newCapacity hG p0 p1 _ e1 hQ) ?_
    refine xw_ald (show xm_Imp g Γ 27 (xi_ald 0 28) from xs_aload_n hΓ dJ4_ensureCapacityInternal_27) rfl ?_
    obtain ⟨v7, e1, e⟩ := e
    refine xw_gi1 (o := (some p0)) (show xm_Imp g Γ 28 (xi_get 14 1 31) from xs_get hG hΓ (ci := 14) (kf := 1) rfl (Nat.le_of_ble_eq_true rfl) q329 dJ4_ensureCapacityInternal_28) rfl e1 ?_
    refine xw_ii (show xm_Imp g Γ 31 (xi_ii (fun x y => x <<< (y &&& 31)) 32) from xs_ishl hΓ dJ4_ensureCapacityInternal_31) ?_
    obtain ⟨m8, m9, ⟨em1, em2⟩, e⟩ := e
    refine xw_tsr2 (show xm_Imp g Γ 32 (xi_inv g M_J10_copyOf 2 2 35) from xs_invS hG hΓ k_J10_copyOf rfl q445 q446 dJ4_ensureCapacityInternal_32) rfl em1 em2 (K_J10_copyOf hG v5 (v6 <<< (v7 &&& 31)) _ _ _ e) (fun v11 h10 e => ?_)
    obtain ⟨h12, e1, e⟩ := e
    refine xw_pt1 (o := (some p0)) (show xm_Imp g Γ 35 (xi_put 14 0 (.array (.byte)) 38) from xs_put hG hΓ (ci := 14) (kf := 0) rfl (Nat.le_of_ble_eq_true rfl) rfl (by decide +kernel) q328 dJ4_ensureCapacityInternal_35) rfl (xv_fit (Or.inr ⟨_, rfl⟩) v11) e1 ?_
    exact xw_vret (show xm_Imp g Γ 38 (xi_vret _) from xs_return hΓ rfl dJ4_ensureCapacityInternal_38) ⟨rfl, e⟩
noncomputable def B_J4_isLatin1_17 (g : xm_G) (h : xm_H) : Option (Int32) :=
 some 0
noncomputable def F_J4_isLatin1 (g : xm_G) (p0 : Nat) (h : xm_H) : Option (Int32) :=
 (if (1 : Int32) = 0 then
 B_J4_isLatin1_17 g h else
 xo_b (xh_fi [(14, 1)] h p0) (fun v1 =>
 (if v1 = 0 then
 some 1 else
 B_J4_isLatin1_17 g h)))
set_option maxHeartbeats 4000000 in
theorem K_J4_isLatin1 {g : xm_G} (hG : xm_Gw g) (p0 : Nat) (h : xm_H) {o : Int32} (e : F_J4_isLatin1 g p0 h = some o) {Q : xm_P} {X : xm_X} (hQ : Q (some (.int o)) h) : xm_Run g M_J4_isLatin1 1 [.ref p0] h 0 0 Q X := by
  refine xm_Run.of pn_java_lang_AbstractStringBuilder (Nat.le_of_ble_eq_true rfl) (fun Γ hΓ => ?_)
  obtain ⟨P0, hP0, hp⟩ : ∃ P : Int32 → Prop, (∀ o, P o → Q (some (.int o)) h) ∧ P o := ⟨fun o => Q (some (.int o)) h, fun _ h => h, hQ⟩
  clear hQ
  show xm_W g Γ 0 [some (.ref p0)] [] h 0 0
  have hB_17 : ∀  (o : Int32), B_J4_isLatin1_17 g h = some o → P0 o → xm_W g Γ 17 [none] [] h 0 0 := by
    intro  o e hp
    unfold B_J4_isLatin1_17 at e
    refine xw_psh (v := (.int (0))) (show xm_Imp g Γ 17 (xi_psh (.int (0)) 18) from xs_iconst hΓ dJ4_isLatin1_17 (by decide)) ?_
    have hq := hP0 _ (xl_fin e hp)
    exact xw_iret (show xm_Imp g Γ 18 (xi_iret .boolean _) from xs_ireturn hΓ rfl dJ4_isLatin1_18) rfl hq
  unfold F_J4_isLatin1 at e
  refine xw_psh (v := (.int 1)) (show xm_Imp g Γ 0 (xi_psh (.int 1) 3) from xs_gst hG hΓ (st_COMPACT_STRINGS hG) q320 (lw_all_tbl q130) rfl q319 dJ4_isLatin1_0) ?_
  refine xw_if (show xm_Imp g Γ 3 (xi_if (fun x => x = 0) 17 6) from xs_if_eq hΓ dJ4_isLatin1_3 (by decide)) (fun c => ?_) (fun c => ?_)
  · rw [if_pos c] at e
    exact xm_lx (hB_17 _ e hp) (trivial)
  · rw [if_neg c] at e
    refine xw_ald (show xm_Imp g Γ 6 (xi_ald 0 7) from xs_aload_n hΓ dJ4_isLatin1_6) rfl ?_
    obtain ⟨v1, e1, e⟩ := xo_b_s e
    refine xw_gi1 (o := (some p0)) (show xm_Imp g Γ 7 (xi_get 14 1 10) from xs_get hG hΓ (ci := 14) (kf := 1) rfl (Nat.le_of_ble_eq_true rfl) q329 dJ4_isLatin1_7) rfl e1 ?_
    refine xw_if (show xm_Imp g Γ 10 (xi_if (fun x => x = 0) 13 17) from xs_if_ne hΓ dJ4_isLatin1_10 (by decide)) (fun c => ?_) (fun c => ?_)
    · rw [if_pos c] at e
      refine xw_psh (v := (.int (1))) (show xm_Imp g Γ 13 (xi_psh (.int (1)) 14) from xs_iconst hΓ dJ4_isLatin1_13 (by decide)) ?_
      refine xw_goto (show xm_Imp g Γ 14 (xi_goto 18) from xs_goto hΓ dJ4_isLatin1_14 (by decide)) ?_
      have hq := hP0 _ (xl_fin e hp)
      exact xw_iret (show xm_Imp g Γ 18 (xi_iret .boolean _) from xs_ireturn hΓ rfl dJ4_isLatin1_18) rfl hq
    · rw [if_neg c] at e
      exact xm_lx (hB_17 _ e hp) (trivial)
def F_J11_canEncode (p0 : Int32) : Int32 :=
 (if 255 < p0 then
 0 else
 1)
set_option maxHeartbeats 4000000 in
theorem K_J11_canEncode {g : xm_G} (hG : xm_Gw g) {h : xm_H} (p0 : Int32) {o : Int32} (e : F_J11_canEncode p0 = o) {Q : xm_P} {X : xm_X} (hQ : Q (some (.int o)) h) : xm_Run g M_J11_canEncode 1 [.int p0] h 0 0 Q X := by
  refine xm_Run.of pn_java_lang_StringLatin1 (Nat.le_of_ble_eq_true rfl) (fun Γ hΓ => ?_)
  obtain ⟨P0, hP0, hp⟩ : ∃ P : Int32 → Prop, (∀ o, P o → Q (some (.int o)) h) ∧ P o := ⟨fun o => Q (some (.int o)) h, fun _ h => h, hQ⟩
  clear hQ
  show xm_W g Γ 0 [some (.int p0)] [] h 0 0
  unfold F_J11_canEncode at e
  refine xw_ild (show xm_Imp g Γ 0 (xi_ild 0 1) from xs_iload_n hΓ dJ11_canEncode_0) rfl ?_
  refine xw_psh (v := (.int (255))) (show xm_Imp g Γ 1 (xi_psh (.int (255)) 4) from xs_sipush hΓ dJ11_canEncode_1 (by decide)) ?_
  refine xw_ic (show xm_Imp g Γ 4 (xi_ic (fun x y => y < x) 11 7) from xs_icmp_gt hΓ dJ11_canEncode_4 (by decide)) (fun c => ?_) (fun c => ?_)
  · rw [if_pos c] at e
    refine xw_psh (v := (.int (0))) (show xm_Imp g Γ 11 (xi_psh (.int (0)) 12) from xs_iconst hΓ dJ11_canEncode_11 (by decide)) ?_
    exact xw_iret (show xm_Imp g Γ 12 (xi_iret .boolean _) from xs_ireturn hΓ rfl dJ11_canEncode_12) rfl (hP0 _ (xl_finV e hp))
  · rw [if_neg c] at e
    refine xw_psh (v := (.int (1))) (show xm_Imp g Γ 7 (xi_psh (.int (1)) 8) from xs_iconst hΓ dJ11_canEncode_7 (by decide)) ?_
    refine xw_goto (show xm_Imp g Γ 8 (xi_goto 12) from xs_goto hΓ dJ11_canEncode_8 (by decide)) ?_
    exact xw_iret (show xm_Imp g Γ 12 (xi_iret .boolean _) from xs_ireturn hΓ rfl dJ11_canEncode_12) rfl (hP0 _ (xl_finV e hp))
theorem b_J11_canEncode (p0 : Int32) : narrow .boolean (.int (F_J11_canEncode p0)) = .int (F_J11_canEncode p0) := by
  unfold F_J11_canEncode
  (repeat' split) <;> first | with_reducible exact xb_n0 | with_reducible exact xb_n1
noncomputable def F_J4_inflate (g : xm_G) (p0 : Nat) (h : xm_H) : Option (Unit) :=
 xo_b (xh_is 14 h p0) (fun _ =>
 xo_b (F_J4_isLatin1 g p0 h) (fun v1 =>
 (if v1 = 0 then
 some () else
 xo_b (xh_fr [(14, 0)] h p0) (fun v2 =>
 xo_b v2 (fun a3 =>
 xo_b (xh_len h a3) (fun v4 =>
 none))))))
set_option maxHeartbeats 4000000 in
theorem K_J4_inflate {g : xm_G} (hG : xm_Gw g) (p0 : Nat) (h : xm_H) {o : Unit} (e : F_J4_inflate g p0 h = some o) {Q : xm_P} {X : xm_X} (hQ : Q none h) : xm_Run g M_J4_inflate 2 [.ref p0] h 0 0 Q X := by
  refine xm_Run.of pn_java_lang_AbstractStringBuilder (Nat.le_of_ble_eq_true rfl) (fun Γ hΓ => ?_)
  obtain ⟨P0, hP0, hp⟩ : ∃ P : Unit → Prop, (∀ o, P o → Q none h) ∧ P o := ⟨fun o => Q none h, fun _ h => h, hQ⟩
  clear hQ
  show xm_W g Γ 0 [some (.ref p0), none] [] h 0 0
  unfold F_J4_inflate at e
  refine xw_ald (show xm_Imp g Γ 0 (xi_ald 0 1) from xs_aload_n hΓ dJ4_inflate_0) rfl ?_
  obtain ⟨_, e0, e⟩ := xo_b_s e
  obtain ⟨v1, e1, e⟩ := xo_b_s e
  refine xw_hv0 (o := (some p0)) (show xm_Imp g Γ 1 (xi_vir g 14 M_J4_isLatin1 1 0 4) from xs_invU hG hΓ (owner := "java/lang/AbstractStringBuilder") k_J4_isLatin1 rfl (ci := 14) rfl q461 q463 q462 q464 rfl ⟨by decide, by decide⟩ (by decide +kernel) dJ4_inflate_1) rfl rfl e0 (fun Q X hQ => K_J4_isLatin1 hG p0 _ e1 hQ) ?_
  refine xw_if (show xm_Imp g Γ 4 (xi_if (fun x => x = 0) 7 8) from xs_if_ne hΓ dJ4_inflate_4 (by decide)) (fun c => ?_) (fun c => ?_)
  · rw [if_pos c] at e
    exact xw_vret (show xm_Imp g Γ 7 (xi_vret _) from xs_return hΓ rfl dJ4_inflate_7) (hP0 _ (xl_fin e hp))
  · rw [if_neg c] at e
    refine xw_ald (show xm_Imp g Γ 8 (xi_ald 0 9) from xs_aload_n hΓ dJ4_inflate_8) rfl ?_
    obtain ⟨v2, e1, e⟩ := xo_b_s e
    refine xw_gr1 (o := (some p0)) (show xm_Imp g Γ 9 (xi_get 14 0 12) from xs_get hG hΓ (ci := 14) (kf := 0) rfl (Nat.le_of_ble_eq_true rfl) q328 dJ4_inflate_9) rfl e1 ?_
    obtain ⟨a3, ha3, e⟩ := xo_b_s e
    obtain ⟨v4, e1, e⟩ := xo_b_s e
    refine xw_hlen (o := v2) (show xm_Imp g Γ 12 (xi_len 13) from xs_len hG hΓ dJ4_inflate_12) ha3 e1 ?_
    cases e
noncomputable def B_J4_append_56 (g : xm_G) (l0 : Nat) (l1 : Int32) (h : xm_H) (bc : Nat) (bs : Nat) (Q : Option Nat → xm_H → Prop) : Prop :=
 xt_b (xh_fr [(14, 0)] h l0) (fun v8 =>
 xt_b (xh_fi [(14, 3)] h l0) (fun v9 =>
 xt_b (xh_w [(14, 3)] h l0 (.int (v9 + 1))) (fun h10 =>
 False)))
noncomputable def B_J4_append_45 (g : xm_G) (l0 : Nat) (l1 : Int32) (h : xm_H) (bc : Nat) (bs : Nat) (Q : Option Nat → xm_H → Prop) : Prop :=
 xt_b (xh_is 14 h l0) (fun _ =>
 xt_b (F_J4_isLatin1 g l0 h) (fun v7 =>
 (if v7 = 0 then
 B_J4_append_56 g l0 l1 h bc bs Q else
 xt_b (xh_is 14 h l0) (fun _ =>
 xt_b (F_J4_inflate g l0 h) (fun v11 =>
 B_J4_append_56 g l0 l1 h bc bs Q)))))
noncomputable def F_J4_append (g : xm_G) (p0 : Nat) (p1 : Int32) (h : xm_H) (bc : Nat) (bs : Nat) (Q : Option Nat → xm_H → Prop) : Prop :=
 xt_b (xh_fi [(14, 3)] h p0) (fun v1 =>
 xt_b (xh_is 14 h p0) (fun _ =>
 xt_c bc bs (fun m2 m3 => F_J4_ensureCapacityInternal g p0 (v1 + 1) h m2 m3 (fun h4 =>
 xt_b (xh_is 14 h4 p0) (fun _ =>
 xt_b (F_J4_isLatin1 g p0 h4) (fun v6 =>
 (if v6 = 0 then
 B_J4_append_45 g p0 p1 h4 (bc - m2) (bs - m3) Q else
 (if (F_J11_canEncode p1) = 0 then
 B_J4_append_45 g p0 p1 h4 (bc - m2) (bs - m3) Q else
 xt_b (xh_fr [(14, 0)] h4 p0) (fun v12 =>
 xt_b (xh_fi [(14, 3)] h4 p0) (fun v13 =>
 xt_b (xh_w [(14, 3)] h4 p0 (.int (v13 + 1))) (fun h14 =>
 xt_b v12 (fun a15 =>
 xt_b (xh_si .byte h14 a15 v13 (p1.toInt8.toInt32.toInt8.toInt32)) (fun h16 =>
 Q (some p0) h16)))))))))))))
set_option maxHeartbeats 4000000 in
theorem K_J4_append {g : xm_G} (hG : xm_Gw g) (p0 : Nat) (p1 : Int32) (h : xm_H) (bc : Nat) (bs : Nat) {Q : Option Nat → xm_H → Prop} (e : F_J4_append g p0 p1 h bc bs Q) : xm_Run g M_J4_append 10 [.ref p0, .int p1] h bc bs (fun v h' => ∃ r, v = some (va_rf r) ∧ Q r h') xm_no := by
  refine xm_Run.of pn_java_lang_AbstractStringBuilder (Nat.le_of_ble_eq_true rfl) (fun Γ hΓ => ?_)
  show xm_W g Γ 0 [some (.ref p0), some (.int p1)] [] h bc bs
  have hB_56 : ∀ (l0 : Nat) (l1 : Int32) (h : xm_H) (bc : Nat) (bs : Nat), B_J4_append_56 g l0 l1 h bc bs Q → xm_W g Γ 56 [some (.ref l0), some (.int l1)] [] h bc bs := by
    intro l0 l1 h bc bs e
    unfold B_J4_append_56 at e
    refine xw_ald (show xm_Imp g Γ 56 (xi_ald 0 57) from xs_aload_n hΓ dJ4_append_56) rfl ?_
    obtain ⟨v8, e1, e⟩ := e
    refine xw_gr1 (o := (some l0)) (show xm_Imp g Γ 57 (xi_get 14 0 60) from xs_get hG hΓ (ci := 14) (kf := 0) rfl (Nat.le_of_ble_eq_true rfl) q328 dJ4_append_57) rfl e1 ?_
    refine xw_ald (show xm_Imp g Γ 60 (xi_ald 0 61) from xs_aload_n hΓ dJ4_append_60) rfl ?_
    refine xw_dup (show xm_Imp g Γ 61 (xi_dup 62) from xs_dup hΓ dJ4_append_61) rfl ?_
    obtain ⟨v9, e1, e⟩ := e
    refine xw_gi1 (o := (some l0)) (show xm_Imp g Γ 62 (xi_get 14 3 65) from xs_get hG hΓ (ci := 14) (kf := 3) rfl (Nat.le_of_ble_eq_true rfl) q332 dJ4_append_62) rfl e1 ?_
    refine xw_dup_x1 (show xm_Imp g Γ 65 (xi_dup_x1 66) from xs_dup_x1 hΓ dJ4_append_65) ⟨rfl, rfl⟩ ?_
    refine xw_psh (v := (.int (1))) (show xm_Imp g Γ 66 (xi_psh (.int (1)) 67) from xs_iconst hΓ dJ4_append_66 (by decide)) ?_
    refine xw_ii (show xm_Imp g Γ 67 (xi_ii (fun x y => x + y) 68) from xs_iadd hΓ dJ4_append_67) ?_
    obtain ⟨h10, e1, e⟩ := e
    refine xw_pt1 (o := (some l0)) (show xm_Imp g Γ 68 (xi_put 14 3 (.int) 71) from xs_put hG hΓ (ci := 14) (kf := 3) rfl (Nat.le_of_ble_eq_true rfl) rfl (by decide +kernel) q332 dJ4_append_68) rfl (xf_int _) e1 ?_
    refine xw_ild (show xm_Imp g Γ 71 (xi_ild 1 72) from xs_iload_n hΓ dJ4_append_71) rfl ?_
    exact e.elim
  have hB_45 : ∀ (l0 : Nat) (l1 : Int32) (h : xm_H) (bc : Nat) (bs : Nat), B_J4_append_45 g l0 l1 h bc bs Q → xm_W g Γ 45 [some (.ref l0), some (.int l1)] [] h bc bs := by
    intro l0 l1 h bc bs e
    unfold B_J4_append_45 at e
    refine xw_ald (show xm_Imp g Γ 45 (xi_ald 0 46) from xs_aload_n hΓ dJ4_append_45) rfl ?_
    obtain ⟨_, e0, e⟩ := e
    obtain ⟨v7, e1, e⟩ := e
    refine xw_hv0 (o := (some l0)) (show xm_Imp g Γ 46 (xi_vir g 14 M_J4_isLatin1 1 0 49) from xs_invU hG hΓ (owner := "java/lang/AbstractStringBuilder") k_J4_isLatin1 rfl (ci := 14) rfl q461 q463 q462 q464 rfl ⟨by decide, by decide⟩ (by decide +kernel) dJ4_append_46) rfl rfl e0 (fun Q X hQ => K_J4_isLatin1 hG l0 _ e1 hQ) ?_
    refine xw_if (show xm_Imp g Γ 49 (xi_if (fun x => x = 0) 56 52) from xs_if_eq hΓ dJ4_append_49 (by decide)) (fun c => ?_) (fun c => ?_)
    · rw [if_pos c] at e
      exact hB_56 _ _ _ _ _ e
    · rw [if_neg c] at e
      refine xw_ald (show xm_Imp g Γ 52 (xi_ald 0 53) from xs_aload_n hΓ dJ4_append_52) rfl ?_
      obtain ⟨_, e0, e⟩ := e
      obtain ⟨v11, e1, e⟩ := e
      refine xw_hu0 (o := (some l0)) (show xm_Imp g Γ 53 (xi_vir g 14 M_J4_inflate 2 0 56) from xs_invVp hG hΓ k_J4_inflate rfl (ci := 14) rfl q469 q471 q464 rfl q470 dJ4_append_53) rfl rfl e0 (fun Q X hQ => K_J4_inflate hG l0 _ e1 hQ) ?_
      exact hB_56 _ _ _ _ _ e
  unfold F_J4_append at e
  refine xw_ald (show xm_Imp g Γ 0 (xi_ald 0 1) from xs_aload_n hΓ dJ4_append_0) rfl ?_
  refine xw_ald (show xm_Imp g Γ 1 (xi_ald 0 2) from xs_aload_n hΓ dJ4_append_1) rfl ?_
  obtain ⟨v1, e1, e⟩ := e
  refine xw_gi1 (o := (some p0)) (show xm_Imp g Γ 2 (xi_get 14 3 5) from xs_get hG hΓ (ci := 14) (kf := 3) rfl (Nat.le_of_ble_eq_true rfl) q332 dJ4_append_2) rfl e1 ?_
  refine xw_psh (v := (.int (1))) (show xm_Imp g Γ 5 (xi_psh (.int (1)) 6) from xs_iconst hΓ dJ4_append_5 (by decide)) ?_
  refine xw_ii (show xm_Imp g Γ 6 (xi_ii (fun x y => x + y) 7) from xs_iadd hΓ dJ4_append_6) ?_
  obtain ⟨_, e0, e⟩ := e
  obtain ⟨m2, m3, ⟨em1, em2⟩, e⟩ := e
  refine xw_tvu1 (o := (some p0)) (show xm_Imp g Γ 7 (xi_vir g 14 M_J4_ensureCapacityInternal 9 1 10) from xs_invVp hG hΓ k_J4_ensureCapacityInternal rfl (ci := 14) rfl q426 q428 q464 rfl q427 dJ4_append_7) rfl rfl e0 em1 em2 (K_J4_ensureCapacityInternal hG p0 (v1 + 1) _ _ _ e) (fun h4 e => ?_)
  refine xw_ald (show xm_Imp g Γ 10 (xi_ald 0 11) from xs_aload_n hΓ dJ4_append_10) rfl ?_
  obtain ⟨_, e0, e⟩ := e
  obtain ⟨v6, e1, e⟩ := e
  refine xw_hv0 (o := (some p0)) (show xm_Imp g Γ 11 (xi_vir g 14 M_J4_isLatin1 1 0 14) from xs_invU hG hΓ (owner := "java/lang/AbstractStringBuilder") k_J4_isLatin1 rfl (ci := 14) rfl q461 q463 q462 q464 rfl ⟨by decide, by decide⟩ (by decide +kernel) dJ4_append_11) rfl rfl e0 (fun Q X hQ => K_J4_isLatin1 hG p0 _ e1 hQ) ?_
  refine xw_if (show xm_Imp g Γ 14 (xi_if (fun x => x = 0) 45 17) from xs_if_eq hΓ dJ4_append_14 (by decide)) (fun c => ?_) (fun c => ?_)
  · rw [if_pos c] at e
    exact hB_45 _ _ _ _ _ e
  · rw [if_neg c] at e
    refine xw_ild (show xm_Imp g Γ 17 (xi_ild 1 18) from xs_iload_n hΓ dJ4_append_17) rfl ?_
    refine xw_sv1 (show xm_Imp g Γ 18 (xi_inv g M_J11_canEncode 1 1 21) from xs_invS hG hΓ k_J11_canEncode rfl q466 q467 dJ4_append_18) rfl (fun Q X hQ => K_J11_canEncode hG p1 rfl hQ) ?_
    refine xw_if (show xm_Imp g Γ 21 (xi_if (fun x => x = 0) 45 24) from xs_if_eq hΓ dJ4_append_21 (by decide)) (fun c => ?_) (fun c => ?_)
    · rw [if_pos c] at e
      exact hB_45 _ _ _ _ _ e
    · rw [if_neg c] at e
      refine xw_ald (show xm_Imp g Γ 24 (xi_ald 0 25) from xs_aload_n hΓ dJ4_append_24) rfl ?_
      obtain ⟨v12, e1, e⟩ := e
      refine xw_gr1 (o := (some p0)) (show xm_Imp g Γ 25 (xi_get 14 0 28) from xs_get hG hΓ (ci := 14) (kf := 0) rfl (Nat.le_of_ble_eq_true rfl) q328 dJ4_append_25) rfl e1 ?_
      refine xw_ald (show xm_Imp g Γ 28 (xi_ald 0 29) from xs_aload_n hΓ dJ4_append_28) rfl ?_
      refine xw_dup (show xm_Imp g Γ 29 (xi_dup 30) from xs_dup hΓ dJ4_append_29) rfl ?_
      obtain ⟨v13, e1, e⟩ := e
      refine xw_gi1 (o := (some p0)) (show xm_Imp g Γ 30 (xi_get 14 3 33) from xs_get hG hΓ (ci := 14) (kf := 3) rfl (Nat.le_of_ble_eq_true rfl) q332 dJ4_append_30) rfl e1 ?_
      refine xw_dup_x1 (show xm_Imp g Γ 33 (xi_dup_x1 34) from xs_dup_x1 hΓ dJ4_append_33) ⟨rfl, rfl⟩ ?_
      refine xw_psh (v := (.int (1))) (show xm_Imp g Γ 34 (xi_psh (.int (1)) 35) from xs_iconst hΓ dJ4_append_34 (by decide)) ?_
      refine xw_ii (show xm_Imp g Γ 35 (xi_ii (fun x y => x + y) 36) from xs_iadd hΓ dJ4_append_35) ?_
      obtain ⟨h14, e1, e⟩ := e
      refine xw_pt1 (o := (some p0)) (show xm_Imp g Γ 36 (xi_put 14 3 (.int) 39) from xs_put hG hΓ (ci := 14) (kf := 3) rfl (Nat.le_of_ble_eq_true rfl) rfl (by decide +kernel) q332 dJ4_append_36) rfl (xf_int _) e1 ?_
      refine xw_ild (show xm_Imp g Γ 39 (xi_ild 1 40) from xs_iload_n hΓ dJ4_append_39) rfl ?_
      refine xw_i1 (show xm_Imp g Γ 40 (xi_i1 (fun x => x.toInt8.toInt32) 41) from xs_i2b hΓ dJ4_append_40) ?_
      obtain ⟨a15, ha15, e⟩ := e
      obtain ⟨h16, e1, e⟩ := e
      refine xw_hbas (o := v12) (show xm_Imp g Γ 41 (xi_bas 42) from xs_bas hG hΓ dJ4_append_41) ha15 e1 ?_
      refine xw_goto (show xm_Imp g Γ 42 (xi_goto 75) from xs_goto hΓ dJ4_append_42 (by decide)) ?_
      refine xw_ald (show xm_Imp g Γ 75 (xi_ald 0 76) from xs_aload_n hΓ dJ4_append_75) rfl ?_
      exact xw_aret (show xm_Imp g Γ 76 (xi_aret _) from xs_areturn hΓ rfl (Or.inl ⟨_, rfl⟩) dJ4_append_76) ⟨_, rfl, e⟩
noncomputable def F_J5_append (g : xm_G) (p0 : Nat) (p1 : Int32) (h : xm_H) (bc : Nat) (bs : Nat) (Q : Option Nat → xm_H → Prop) : Prop :=
 xt_b (xh_is 14 h p0) (fun _ =>
 xt_c bc bs (fun m1 m2 => F_J4_append g p0 p1 h m1 m2 (fun v4 h3 =>
 Q (some p0) h3)))
set_option maxHeartbeats 4000000 in
theorem K_J5_append {g : xm_G} (hG : xm_Gw g) (p0 : Nat) (p1 : Int32) (h : xm_H) (bc : Nat) (bs : Nat) {Q : Option Nat → xm_H → Prop} (e : F_J5_append g p0 p1 h bc bs Q) : xm_Run g M_J5_append 11 [.ref p0, .int p1] h bc bs (fun v h' => ∃ r, v = some (va_rf r) ∧ Q r h') xm_no := by
  refine xm_Run.of pn_java_lang_StringBuilder (Nat.le_of_ble_eq_true rfl) (fun Γ hΓ => ?_)
  show xm_W g Γ 0 [some (.ref p0), some (.int p1)] [] h bc bs
  unfold F_J5_append at e
  refine xw_ald (show xm_Imp g Γ 0 (xi_ald 0 1) from xs_aload_n hΓ dJ5_append_0) rfl ?_
  refine xw_ild (show xm_Imp g Γ 1 (xi_ild 1 2) from xs_iload_n hΓ dJ5_append_1) rfl ?_
  obtain ⟨_, e0, e⟩ := e
  obtain ⟨m1, m2, ⟨em1, em2⟩, e⟩ := e
  refine xw_tvr1 (o := (some p0)) (show xm_Imp g Γ 2 (xi_vir g 14 M_J4_append 10 1 5) from xs_invP hG hΓ k_J4_append rfl (ci := 14) rfl q423 q3523 q341 q424 (by decide) dJ5_append_2) rfl rfl e0 em1 em2 (K_J4_append hG p0 p1 _ _ _ e) (fun v4 h3 e => ?_)
  refine xw_pop (show xm_Imp g Γ 5 (xi_pop 6) from xs_pop hΓ dJ5_append_5) (xm_c1_rf v4) ?_
  refine xw_ald (show xm_Imp g Γ 6 (xi_ald 0 7) from xs_aload_n hΓ dJ5_append_6) rfl ?_
  exact xw_aret (show xm_Imp g Γ 7 (xi_aret _) from xs_areturn hΓ rfl (Or.inl ⟨_, rfl⟩) dJ5_append_7) ⟨_, rfl, e⟩
noncomputable def F_J4_getValue (g : xm_G) (p0 : Nat) (h : xm_H) : Option (Option Nat) :=
 xo_b (xh_fr [(14, 0)] h p0) (fun v1 =>
 some v1)
set_option maxHeartbeats 4000000 in
theorem K_J4_getValue {g : xm_G} (hG : xm_Gw g) (p0 : Nat) (h : xm_H) {o : Option Nat} (e : F_J4_getValue g p0 h = some o) {Q : xm_P} {X : xm_X} (hQ : Q (some (va_rf o)) h) : xm_Run g M_J4_getValue 1 [.ref p0] h 0 0 Q X := by
  refine xm_Run.of pn_java_lang_AbstractStringBuilder (Nat.le_of_ble_eq_true rfl) (fun Γ hΓ => ?_)
  obtain ⟨P0, hP0, hp⟩ : ∃ P : Option Nat → Prop, (∀ o, P o → Q (some (va_rf o)) h) ∧ P o := ⟨fun o => Q (some (va_rf o)) h, fun _ h => h, hQ⟩
  clear hQ
  show xm_W g Γ 0 [some (.ref p0)] [] h 0 0
  unfold F_J4_getValue at e
  refine xw_ald (show xm_Imp g Γ 0 (xi_ald 0 1) from xs_aload_n hΓ dJ4_getValue_0) rfl ?_
  obtain ⟨v1, e1, e⟩ := xo_b_s e
  refine xw_gr1 (o := (some p0)) (show xm_Imp g Γ 1 (xi_get 14 0 4) from xs_get hG hΓ (ci := 14) (kf := 0) rfl (Nat.le_of_ble_eq_true rfl) q328 dJ4_getValue_1) rfl e1 ?_
  have hq := hP0 _ (xl_fin e hp)
  exact xw_areto (show xm_Imp g Γ 4 (xi_aret _) from xs_areturn hΓ rfl (Or.inr ⟨_, rfl⟩) dJ4_getValue_4) hq
noncomputable def F_J4_length (g : xm_G) (p0 : Nat) (h : xm_H) : Option (Int32) :=
 xo_b (xh_fi [(14, 3)] h p0) (fun v1 =>
 some v1)
set_option maxHeartbeats 4000000 in
theorem K_J4_length {g : xm_G} (hG : xm_Gw g) (p0 : Nat) (h : xm_H) {o : Int32} (e : F_J4_length g p0 h = some o) {Q : xm_P} {X : xm_X} (hQ : Q (some (.int o)) h) : xm_Run g M_J4_length 1 [.ref p0] h 0 0 Q X := by
  refine xm_Run.of pn_java_lang_AbstractStringBuilder (Nat.le_of_ble_eq_true rfl) (fun Γ hΓ => ?_)
  obtain ⟨P0, hP0, hp⟩ : ∃ P : Int32 → Prop, (∀ o, P o → Q (some (.int o)) h) ∧ P o := ⟨fun o => Q (some (.int o)) h, fun _ h => h, hQ⟩
  clear hQ
  show xm_W g Γ 0 [some (.ref p0)] [] h 0 0
  unfold F_J4_length at e
  refine xw_ald (show xm_Imp g Γ 0 (xi_ald 0 1) from xs_aload_n hΓ dJ4_length_0) rfl ?_
  obtain ⟨v1, e1, e⟩ := xo_b_s e
  refine xw_gi1 (o := (some p0)) (show xm_Imp g Γ 1 (xi_get 14 3 4) from xs_get hG hΓ (ci := 14) (kf := 3) rfl (Nat.le_of_ble_eq_true rfl) q332 dJ4_length_1) rfl e1 ?_
  have hq := hP0 _ (xl_fin e hp)
  exact xw_iret (show xm_Imp g Γ 4 (xi_iret .int _) from xs_ireturn hΓ rfl dJ4_length_4) (xn_int _) hq
noncomputable def F_J5_length (g : xm_G) (p0 : Nat) (h : xm_H) : Option (Int32) :=
 xo_b (xh_is 14 h p0) (fun _ =>
 xo_b (F_J4_length g p0 h) (fun v1 =>
 some v1))
set_option maxHeartbeats 4000000 in
theorem K_J5_length {g : xm_G} (hG : xm_Gw g) (p0 : Nat) (h : xm_H) {o : Int32} (e : F_J5_length g p0 h = some o) {Q : xm_P} {X : xm_X} (hQ : Q (some (.int o)) h) : xm_Run g M_J5_length 2 [.ref p0] h 0 0 Q X := by
  refine xm_Run.of pn_java_lang_StringBuilder (Nat.le_of_ble_eq_true rfl) (fun Γ hΓ => ?_)
  obtain ⟨P0, hP0, hp⟩ : ∃ P : Int32 → Prop, (∀ o, P o → Q (some (.int o)) h) ∧ P o := ⟨fun o => Q (some (.int o)) h, fun _ h => h, hQ⟩
  clear hQ
  show xm_W g Γ 0 [some (.ref p0)] [] h 0 0
  unfold F_J5_length at e
  refine xw_ald (show xm_Imp g Γ 0 (xi_ald 0 1) from xs_aload_n hΓ dJ5_length_0) rfl ?_
  obtain ⟨_, e0, e⟩ := xo_b_s e
  obtain ⟨v1, e1, e⟩ := xo_b_s e
  refine xw_hv0 (o := (some p0)) (show xm_Imp g Γ 1 (xi_vir g 14 M_J4_length 1 0 4) from xs_invP hG hΓ k_J4_length rfl (ci := 14) rfl q538 q534 q341 q533 (by decide) dJ5_length_1) rfl rfl e0 (fun Q X hQ => K_J4_length hG p0 _ e1 hQ) ?_
  have hq := hP0 _ (xl_fin e hp)
  exact xw_iret (show xm_Imp g Γ 4 (xi_iret .int _) from xs_ireturn hΓ rfl dJ5_length_4) (xn_int _) hq
noncomputable def F_J10_checkLength (g : xm_G) (p0 : Int32) (p1 : Int32) (h : xm_H) : Option (Unit) :=
 (if p0 ≤ p1 then
 some () else
 none)
set_option maxHeartbeats 4000000 in
theorem K_J10_checkLength {g : xm_G} (hG : xm_Gw g) (p0 : Int32) (p1 : Int32) (h : xm_H) {o : Unit} (e : F_J10_checkLength g p0 p1 h = some o) {Q : xm_P} {X : xm_X} (hQ : Q none h) : xm_Run g M_J10_checkLength 13 [.int p0, .int p1] h 0 0 Q X := by
  refine xm_Run.of pn_java_util_Arrays (Nat.le_of_ble_eq_true rfl) (fun Γ hΓ => ?_)
  obtain ⟨P0, hP0, hp⟩ : ∃ P : Unit → Prop, (∀ o, P o → Q none h) ∧ P o := ⟨fun o => Q none h, fun _ h => h, hQ⟩
  clear hQ
  show xm_W g Γ 0 [some (.int p0), some (.int p1)] [] h 0 0
  unfold F_J10_checkLength at e
  refine xw_ild (show xm_Imp g Γ 0 (xi_ild 1 1) from xs_iload_n hΓ dJ10_checkLength_0) rfl ?_
  refine xw_ild (show xm_Imp g Γ 1 (xi_ild 0 2) from xs_iload_n hΓ dJ10_checkLength_1) rfl ?_
  refine xw_ic (show xm_Imp g Γ 2 (xi_ic (fun x y => y ≤ x) 37 5) from xs_icmp_ge hΓ dJ10_checkLength_2 (by decide)) (fun c => ?_) (fun c => ?_)
  · rw [if_pos c] at e
    exact xw_vret (show xm_Imp g Γ 37 (xi_vret _) from xs_return hΓ rfl dJ10_checkLength_37) (hP0 _ (xl_fin e hp))
  · rw [if_neg c] at e
    cases e
noncomputable def F_J10_copyOfRangeByte (g : xm_G) (p0 : Option Nat) (p1 : Int32) (p2 : Int32) (h : xm_H) (bc : Nat) (bs : Nat) (Q : Option Nat → xm_H → Prop) : Prop :=
 xt_b (F_J10_checkLength g p1 p2 h) (fun v1 =>
 xt_b (xa_nat (p2 - p1)) (fun N6 =>
 xt_new h bc bs N6 (.inl (.byte, N6, .inl (fun _ => 0))) (fun a2 h3 b4 b5 =>
 xt_b p0 (fun a7 =>
 xt_b (xh_len h3 a7) (fun v8 =>
 xt_b (xh_cpi .byte h3 a7 p1 a2 0 (if (p2 - p1) < (v8 - p1) then (p2 - p1) else (v8 - p1))) (fun h9 =>
 Q (some a2) h9))))))
set_option maxHeartbeats 4000000 in
theorem K_J10_copyOfRangeByte {g : xm_G} (hG : xm_Gw g) (p0 : Option Nat) (p1 : Int32) (p2 : Int32) (h : xm_H) (bc : Nat) (bs : Nat) {Q : Option Nat → xm_H → Prop} (e : F_J10_copyOfRangeByte g p0 p1 p2 h bc bs Q) : xm_Run g M_J10_copyOfRangeByte 14 [va_rf p0, .int p1, .int p2] h bc bs (fun v h' => ∃ r, v = some (va_rf r) ∧ Q r h') xm_no := by
  refine xm_Run.of2 (ls := [some (va_rf p0), some (.int p1), some (.int p2), none, none]) pn_java_util_Arrays (by cases p0 <;> exact Nat.le_of_ble_eq_true rfl) (by cases p0 <;> rfl) (fun Γ hΓ => ?_)
  show xm_W g Γ 0 [some (va_rf p0), some (.int p1), some (.int p2), none, none] [] h bc bs
  unfold F_J10_copyOfRangeByte at e
  refine xw_ild (show xm_Imp g Γ 0 (xi_ild 1 1) from xs_iload_n hΓ dJ10_copyOfRangeByte_0) rfl ?_
  refine xw_ild (show xm_Imp g Γ 1 (xi_ild 2 2) from xs_iload_n hΓ dJ10_copyOfRangeByte_1) rfl ?_
  obtain ⟨v1, e1, e⟩ := e
  refine xw_su2 (show xm_Imp g Γ 2 (xi_inv g M_J10_checkLength 13 2 5) from xs_invS hG hΓ k_J10_checkLength rfl q547 q548 dJ10_copyOfRangeByte_2) rfl (fun Q X hQ => K_J10_checkLength hG p1 p2 _ e1 hQ) ?_
  refine xw_ild (show xm_Imp g Γ 5 (xi_ild 2 6) from xs_iload_n hΓ dJ10_copyOfRangeByte_5) rfl ?_
  refine xw_ild (show xm_Imp g Γ 6 (xi_ild 1 7) from xs_iload_n hΓ dJ10_copyOfRangeByte_6) rfl ?_
  refine xw_ii (show xm_Imp g Γ 7 (xi_ii (fun x y => x - y) 8) from xs_isub hΓ dJ10_copyOfRangeByte_7) ?_
  refine xw_ist (ls' := [some (va_rf p0), some (.int p1), some (.int p2), some (.int (p2 - p1)), none]) (show xm_Imp g Γ 8 (xi_ist 3 9) from xs_istore_n hΓ dJ10_copyOfRangeByte_8 (Nat.le_of_ble_eq_true rfl)) rfl ?_
  refine xw_ild (show xm_Imp g Γ 9 (xi_ild 3 10) from xs_iload_n hΓ dJ10_copyOfRangeByte_9) rfl ?_
  obtain ⟨N6, e1, e⟩ := e
  refine xw_neai (show xm_Imp g Γ 10 (xi_nea .byte xm_zi 12) from xs_newa (at0 := .byte) hG hΓ rfl (by decide) (by decide) xm_zi xm_zi_byte q342 dJ10_copyOfRangeByte_10) e1 e (fun a2 h3 b4 b5 e => ?_)
  refine xw_ast (ls' := [some (va_rf p0), some (.int p1), some (.int p2), some (.int (p2 - p1)), some (.ref a2)]) (show xm_Imp g Γ 12 (xi_ast 4 14) from xs_astore hΓ dJ10_copyOfRangeByte_12 (Nat.le_of_ble_eq_true rfl)) rfl ?_
  refine xw_aldo (x := p0) (show xm_Imp g Γ 14 (xi_ald 0 15) from xs_aload_n hΓ dJ10_copyOfRangeByte_14) rfl ?_
  refine xw_ild (show xm_Imp g Γ 15 (xi_ild 1 16) from xs_iload_n hΓ dJ10_copyOfRangeByte_15) rfl ?_
  refine xw_ald (show xm_Imp g Γ 16 (xi_ald 4 18) from xs_aload hΓ dJ10_copyOfRangeByte_16) rfl ?_
  refine xw_psh (v := (.int (0))) (show xm_Imp g Γ 18 (xi_psh (.int (0)) 19) from xs_iconst hΓ dJ10_copyOfRangeByte_18 (by decide)) ?_
  refine xw_aldo (x := p0) (show xm_Imp g Γ 19 (xi_ald 0 20) from xs_aload_n hΓ dJ10_copyOfRangeByte_19) rfl ?_
  obtain ⟨a7, ha7, e⟩ := e
  obtain ⟨v8, e1, e⟩ := e
  refine xw_hlen (o := p0) (show xm_Imp g Γ 20 (xi_len 21) from xs_len hG hΓ dJ10_copyOfRangeByte_20) ha7 e1 ?_
  refine xw_ild (show xm_Imp g Γ 21 (xi_ild 1 22) from xs_iload_n hΓ dJ10_copyOfRangeByte_21) rfl ?_
  refine xw_ii (show xm_Imp g Γ 22 (xi_ii (fun x y => x - y) 23) from xs_isub hΓ dJ10_copyOfRangeByte_22) ?_
  refine xw_ild (show xm_Imp g Γ 23 (xi_ild 3 24) from xs_iload_n hΓ dJ10_copyOfRangeByte_23) rfl ?_
  refine xw_mm (show xm_Imp g Γ 24 (xi_mm (fun x y => if y < x then y else x) 27) from xs_mmin hG hΓ rfl q455 dJ10_copyOfRangeByte_24) (by simp [xm_stk, xv_cat, xc_int, xc_long, xc_float, xc_double, xc_ref]) ?_
  obtain ⟨h9, e1, e⟩ := e
  refine xw_cpi (o := p0) (o1 := (some a2)) (show xm_Imp g Γ 27 (xi_cpi .byte 30) from xs_cpi hG hΓ (ty := .byte) rfl rfl q458 dJ10_copyOfRangeByte_27) ha7 rfl rfl e1 ?_
  refine xw_ald (show xm_Imp g Γ 30 (xi_ald 4 32) from xs_aload hΓ dJ10_copyOfRangeByte_30) rfl ?_
  exact xw_aret (show xm_Imp g Γ 32 (xi_aret _) from xs_areturn hΓ rfl (Or.inr ⟨_, rfl⟩) dJ10_copyOfRangeByte_32) ⟨_, rfl, e⟩
noncomputable def B_J10_copyOfRange_10 (g : xm_G) (l0 : Option Nat) (l1 : Int32) (l2 : Int32) (h : xm_H) (bc : Nat) (bs : Nat) (Q : Option Nat → xm_H → Prop) : Prop :=
 xt_c bc bs (fun m8 m9 => F_J10_copyOfRangeByte g l0 l1 l2 h m8 m9 (fun v11 h10 =>
 Q v11 h10))
noncomputable def F_J10_copyOfRange (g : xm_G) (p0 : Option Nat) (p1 : Int32) (p2 : Int32) (h : xm_H) (bc : Nat) (bs : Nat) (Q : Option Nat → xm_H → Prop) : Prop :=
 (if p1 = 0 then
 xt_b p0 (fun a1 =>
 xt_b (xh_len h a1) (fun v2 =>
 (if p2 = v2 then
 xt_b (xh_bytes h a1) (fun f7 =>
 xt_new h bc bs f7.1 (.inl (.byte, f7.1, .inl f7.2)) (fun a3 h4 b5 b6 =>
 xt_b (xh_castA (.byte) h4 (some a3)) (fun _ =>
 Q (some a3) h4))) else
 B_J10_copyOfRange_10 g p0 p1 p2 h bc bs Q))) else
 B_J10_copyOfRange_10 g p0 p1 p2 h bc bs Q)
set_option maxHeartbeats 4000000 in
theorem K_J10_copyOfRange {g : xm_G} (hG : xm_Gw g) (p0 : Option Nat) (p1 : Int32) (p2 : Int32) (h : xm_H) (bc : Nat) (bs : Nat) {Q : Option Nat → xm_H → Prop} (e : F_J10_copyOfRange g p0 p1 p2 h bc bs Q) : xm_Run g M_J10_copyOfRange 15 [va_rf p0, .int p1, .int p2] h bc bs (fun v h' => ∃ r, v = some (va_rf r) ∧ Q r h') xm_no := by
  refine xm_Run.of2 (ls := [some (va_rf p0), some (.int p1), some (.int p2)]) pn_java_util_Arrays (by cases p0 <;> exact Nat.le_of_ble_eq_true rfl) (by cases p0 <;> rfl) (fun Γ hΓ => ?_)
  show xm_W g Γ 0 [some (va_rf p0), some (.int p1), some (.int p2)] [] h bc bs
  have hB_10 : ∀ (l0 : Option Nat) (l1 : Int32) (l2 : Int32) (h : xm_H) (bc : Nat) (bs : Nat), B_J10_copyOfRange_10 g l0 l1 l2 h bc bs Q → xm_W g Γ 10 [some (va_rf l0), some (.int l1), some (.int l2)] [] h bc bs := by
    intro l0 l1 l2 h bc bs e
    unfold B_J10_copyOfRange_10 at e
    refine xw_aldo (x := l0) (show xm_Imp g Γ 10 (xi_ald 0 11) from xs_aload_n hΓ dJ10_copyOfRange_10) rfl ?_
    refine xw_ild (show xm_Imp g Γ 11 (xi_ild 1 12) from xs_iload_n hΓ dJ10_copyOfRange_11) rfl ?_
    refine xw_ild (show xm_Imp g Γ 12 (xi_ild 2 13) from xs_iload_n hΓ dJ10_copyOfRange_12) rfl ?_
    obtain ⟨m8, m9, ⟨em1, em2⟩, e⟩ := e
    refine xw_tsr3 (show xm_Imp g Γ 13 (xi_inv g M_J10_copyOfRangeByte 14 3 16) from xs_invS hG hΓ k_J10_copyOfRangeByte rfl q544 q545 dJ10_copyOfRange_13) rfl em1 em2 (K_J10_copyOfRangeByte hG l0 l1 l2 _ _ _ e) (fun v11 h10 e => ?_)
    exact xw_areto (show xm_Imp g Γ 16 (xi_aret _) from xs_areturn hΓ rfl (Or.inr ⟨_, rfl⟩) dJ10_copyOfRange_16) ⟨_, rfl, e⟩
  unfold F_J10_copyOfRange at e
  refine xw_ild (show xm_Imp g Γ 0 (xi_ild 1 1) from xs_iload_n hΓ dJ10_copyOfRange_0) rfl ?_
  refine xw_if (show xm_Imp g Γ 1 (xi_if (fun x => x = 0) 4 10) from xs_if_ne hΓ dJ10_copyOfRange_1 (by decide)) (fun c => ?_) (fun c => ?_)
  · rw [if_pos c] at e
    refine xw_ild (show xm_Imp g Γ 4 (xi_ild 2 5) from xs_iload_n hΓ dJ10_copyOfRange_4) rfl ?_
    refine xw_aldo (x := p0) (show xm_Imp g Γ 5 (xi_ald 0 6) from xs_aload_n hΓ dJ10_copyOfRange_5) rfl ?_
    obtain ⟨a1, ha1, e⟩ := e
    obtain ⟨v2, e1, e⟩ := e
    refine xw_hlen (o := p0) (show xm_Imp g Γ 6 (xi_len 7) from xs_len hG hΓ dJ10_copyOfRange_6) ha1 e1 ?_
    refine xw_ic (show xm_Imp g Γ 7 (xi_ic (fun x y => x = y) 17 10) from xs_icmp_eq hΓ dJ10_copyOfRange_7 (by decide)) (fun c => ?_) (fun c => ?_)
    · rw [if_pos c] at e
      refine xw_aldo (x := p0) (show xm_Imp g Γ 17 (xi_ald 0 18) from xs_aload_n hΓ dJ10_copyOfRange_17) rfl ?_
      obtain ⟨f7, e1, e⟩ := e
      refine xw_cln (o := p0) (show xm_Imp g Γ 18 (xi_cln 21) from xs_cln hG hΓ rfl q448 q449 q450 q451 q452 q453 dJ10_copyOfRange_18) ha1 (by simp [xm_stk, xv_cat, xc_int, xc_long, xc_float, xc_double, xc_ref]) e1 e (fun a3 h4 b5 b6 e => ?_)
      obtain ⟨_, e1, e⟩ := e
      refine xw_castA (o := (some a3)) (show xm_Imp g Γ 21 (xi_castA (.byte) 24) from xs_castB hG hΓ (ty := .byte) (by decide +kernel) q454 dJ10_copyOfRange_21) e1 ?_
      exact xw_aret (show xm_Imp g Γ 24 (xi_aret _) from xs_areturn hΓ rfl (Or.inr ⟨_, rfl⟩) dJ10_copyOfRange_24) ⟨_, rfl, e⟩
    · rw [if_neg c] at e
      exact hB_10 _ _ _ _ _ _ e
  · rw [if_neg c] at e
    exact hB_10 _ _ _ _ _ _ e
noncomputable def B_J6_init_2_79 (g : xm_G) (l0 : Nat) (l3 : Option Nat) (l4 : Int32) (h : xm_H) (bc : Nat) (bs : Nat) (Q : xm_H → Prop) : Prop :=
 xt_b (xh_w [(15, 1)] h l0 (.int 1)) (fun h5 =>
 xt_c bc bs (fun m6 m7 => F_J10_copyOfRange g l3 0 (l4 <<< (1 &&& 31)) h5 m6 m7 (fun v9 h8 =>
 xt_b (xh_w [(15, 0)] h8 l0 (va_rf v9)) (fun h10 =>
 Q h10))))
noncomputable def F_J6_init_2 (g : xm_G) (p0 : Nat) (p1 : Option Nat) (p2 : Option Nat) (h : xm_H) (bc : Nat) (bs : Nat) (Q : xm_H → Prop) : Prop :=
 xt_b p1 (fun a1 =>
 xt_b (xh_is 14 h a1) (fun _ =>
 xt_b (F_J4_getValue g a1 h) (fun v2 =>
 xt_b (xh_is 14 h a1) (fun _ =>
 xt_b (F_J5_length g a1 h) (fun v3 =>
 xt_b (xh_is 14 h a1) (fun _ =>
 xt_b (F_J4_isLatin1 g a1 h) (fun v4 =>
 (if v4 = 0 then
 (if (1 : Int32) = 0 then
 B_J6_init_2_79 g p0 v2 v3 h bc bs Q else
 xt_b (xh_fi [(14, 2)] h a1) (fun v11 =>
 (if v11 = 0 then
 B_J6_init_2_79 g p0 v2 v3 h bc bs Q else
 False))) else
 xt_b (xh_w [(15, 1)] h p0 (.int 0)) (fun h12 =>
 xt_c bc bs (fun m13 m14 => F_J10_copyOfRange g v2 0 v3 h12 m13 m14 (fun v16 h15 =>
 xt_b (xh_w [(15, 0)] h15 p0 (va_rf v16)) (fun h17 =>
 Q h17))))))))))))
set_option maxHeartbeats 4000000 in
theorem K_J6_init_2 {g : xm_G} (hG : xm_Gw g) (p0 : Nat) (p1 : Option Nat) (p2 : Option Nat) (h : xm_H) (bc : Nat) (bs : Nat) {Q : xm_H → Prop} (e : F_J6_init_2 g p0 p1 p2 h bc bs Q) : xm_Run g M_J6_init_2 16 [.ref p0, va_rf p1, va_rf p2] h bc bs (fun v h' => v = none ∧ Q h') xm_no := by
  refine xm_Run.of2 (ls := [some (.ref p0), some (va_rf p1), some (va_rf p2), none, none]) pn_java_lang_String (by cases p1 <;> cases p2 <;> exact Nat.le_of_ble_eq_true rfl) (by cases p1 <;> cases p2 <;> rfl) (fun Γ hΓ => ?_)
  show xm_W g Γ 0 [some (.ref p0), some (va_rf p1), some (va_rf p2), none, none] [] h bc bs
  have hB_79 : ∀ (l0 : Nat) (l3 : Option Nat) (l4 : Int32) (h : xm_H) (bc : Nat) (bs : Nat), B_J6_init_2_79 g l0 l3 l4 h bc bs Q → xm_W g Γ 79 [some (.ref l0), none, none, some (va_rf l3), some (.int l4)] [] h bc bs := by
    intro l0 l3 l4 h bc bs e
    unfold B_J6_init_2_79 at e
    refine xw_ald (show xm_Imp g Γ 79 (xi_ald 0 80) from xs_aload_n hΓ dJ6_init_2_79) rfl ?_
    refine xw_psh (v := (.int (1))) (show xm_Imp g Γ 80 (xi_psh (.int (1)) 81) from xs_iconst hΓ dJ6_init_2_80 (by decide)) ?_
    obtain ⟨h5, e1, e⟩ := e
    refine xw_pt1 (o := (some l0)) (show xm_Imp g Γ 81 (xi_put 15 1 (.byte) 84) from xs_putF hG hΓ (ci := 15) (kf := 1) rfl (Nat.le_of_ble_eq_true rfl) rfl rfl rfl (by decide +kernel) q710 dJ6_init_2_81) rfl ⟨rfl, rfl⟩ e1 ?_
    refine xw_ald (show xm_Imp g Γ 84 (xi_ald 0 85) from xs_aload_n hΓ dJ6_init_2_84) rfl ?_
    refine xw_aldo (x := l3) (show xm_Imp g Γ 85 (xi_ald 3 86) from xs_aload_n hΓ dJ6_init_2_85) rfl ?_
    refine xw_psh (v := (.int (0))) (show xm_Imp g Γ 86 (xi_psh (.int (0)) 87) from xs_iconst hΓ dJ6_init_2_86 (by decide)) ?_
    refine xw_ild (show xm_Imp g Γ 87 (xi_ild 4 89) from xs_iload hΓ dJ6_init_2_87) rfl ?_
    refine xw_psh (v := (.int (1))) (show xm_Imp g Γ 89 (xi_psh (.int (1)) 90) from xs_iconst hΓ dJ6_init_2_89 (by decide)) ?_
    refine xw_ii (show xm_Imp g Γ 90 (xi_ii (fun x y => x <<< (y &&& 31)) 91) from xs_ishl hΓ dJ6_init_2_90) ?_
    obtain ⟨m6, m7, ⟨em1, em2⟩, e⟩ := e
    refine xw_tsr3 (show xm_Imp g Γ 91 (xi_inv g M_J10_copyOfRange 15 3 94) from xs_invS hG hΓ k_J10_copyOfRange rfl q541 q542 dJ6_init_2_91) rfl em1 em2 (K_J10_copyOfRange hG l3 0 (l4 <<< (1 &&& 31)) _ _ _ e) (fun v9 h8 e => ?_)
    obtain ⟨h10, e1, e⟩ := e
    refine xw_pt1 (o := (some l0)) (show xm_Imp g Γ 94 (xi_put 15 0 (.array (.byte)) 97) from xs_putF hG hΓ (ci := 15) (kf := 0) rfl (Nat.le_of_ble_eq_true rfl) rfl rfl rfl (by decide +kernel) q709 dJ6_init_2_94) rfl (xv_fit (Or.inr ⟨_, rfl⟩) v9) e1 ?_
    exact xw_vret (show xm_Imp g Γ 97 (xi_vret _) from xs_return hΓ rfl dJ6_init_2_97) ⟨rfl, e⟩
  unfold F_J6_init_2 at e
  refine xw_ald (show xm_Imp g Γ 0 (xi_ald 0 1) from xs_aload_n hΓ dJ6_init_2_0) rfl ?_
  refine xw_obj (o := some p0) (show xm_Imp g Γ 1 (xi_obj 4) from xs_obj hG hΓ rfl q526 dJ6_init_2_1) rfl rfl ?_
  refine xw_aldo (x := p1) (show xm_Imp g Γ 4 (xi_ald 1 5) from xs_aload_n hΓ dJ6_init_2_4) rfl ?_
  obtain ⟨a1, ha1, e⟩ := e
  obtain ⟨_, e0, e⟩ := e
  obtain ⟨v2, e1, e⟩ := e
  refine xw_hv0 (o := p1) (show xm_Imp g Γ 5 (xi_vir g 14 M_J4_getValue 1 0 8) from xs_invU hG hΓ (owner := "java/lang/AbstractStringBuilder") k_J4_getValue rfl (ci := 14) rfl q527 q529 q528 q530 rfl ⟨by decide, by decide⟩ (by decide +kernel) dJ6_init_2_5) (by simp [xm_stk, xv_cat, xc_int, xc_long, xc_float, xc_double, xc_ref]) ha1 e0 (fun Q X hQ => K_J4_getValue hG a1 _ e1 hQ) ?_
  refine xw_asto (x := v2) (ls' := [some (.ref p0), some (va_rf p1), some (va_rf p2), some (va_rf v2), none]) (show xm_Imp g Γ 8 (xi_ast 3 9) from xs_astore_n hΓ dJ6_init_2_8 (Nat.le_of_ble_eq_true rfl)) ((xm_s1_o (o := p2) rfl).trans rfl) ?_
  refine xw_aldo (x := p1) (show xm_Imp g Γ 9 (xi_ald 1 10) from xs_aload_n hΓ dJ6_init_2_9) rfl ?_
  obtain ⟨_, e0, e⟩ := e
  obtain ⟨v3, e1, e⟩ := e
  refine xw_hv0 (o := p1) (show xm_Imp g Γ 10 (xi_vir g 14 M_J5_length 2 0 13) from xs_invO hG hΓ (owner := "java/lang/AbstractStringBuilder") k_J5_length rfl (ci := 14) rfl q532 q534 q533 q536 q535 q539 ⟨by decide, by decide⟩ (by decide +kernel) dJ6_init_2_10) (by simp [xm_stk, xv_cat, xc_int, xc_long, xc_float, xc_double, xc_ref]) ha1 e0 (fun Q X hQ => K_J5_length hG a1 _ e1 hQ) ?_
  refine xw_ist (ls' := [some (.ref p0), some (va_rf p1), some (va_rf p2), some (va_rf v2), some (.int v3)]) (show xm_Imp g Γ 13 (xi_ist 4 15) from xs_istore hΓ dJ6_init_2_13 (Nat.le_of_ble_eq_true rfl)) ((xm_s1_o (o := v2) rfl).trans rfl) ?_
  refine xw_aldo (x := p1) (show xm_Imp g Γ 15 (xi_ald 1 16) from xs_aload_n hΓ dJ6_init_2_15) rfl ?_
  obtain ⟨_, e0, e⟩ := e
  obtain ⟨v4, e1, e⟩ := e
  refine xw_hv0 (o := p1) (show xm_Imp g Γ 16 (xi_vir g 14 M_J4_isLatin1 1 0 19) from xs_invU hG hΓ (owner := "java/lang/AbstractStringBuilder") k_J4_isLatin1 rfl (ci := 14) rfl q540 q463 q462 q464 rfl ⟨by decide, by decide⟩ (by decide +kernel) dJ6_init_2_16) (by simp [xm_stk, xv_cat, xc_int, xc_long, xc_float, xc_double, xc_ref]) ha1 e0 (fun Q X hQ => K_J4_isLatin1 hG a1 _ e1 hQ) ?_
  refine xw_if (show xm_Imp g Γ 19 (xi_if (fun x => x = 0) 41 22) from xs_if_eq hΓ dJ6_init_2_19 (by decide)) (fun c => ?_) (fun c => ?_)
  · rw [if_pos c] at e
    refine xw_psh (v := (.int 1)) (show xm_Imp g Γ 41 (xi_psh (.int 1) 44) from xs_gst hG hΓ (st_COMPACT_STRINGS hG) q320 (lw_all_tbl q130) rfl q654 dJ6_init_2_41) ?_
    refine xw_if (show xm_Imp g Γ 44 (xi_if (fun x => x = 0) 79 47) from xs_if_eq hΓ dJ6_init_2_44 (by decide)) (fun c => ?_) (fun c => ?_)
    · rw [if_pos c] at e
      exact xm_lx (hB_79 _ _ _ _ _ _ e) (And.intro rfl (And.intro rfl (And.intro rfl (trivial))))
    · rw [if_neg c] at e
      refine xw_aldo (x := p1) (show xm_Imp g Γ 47 (xi_ald 1 48) from xs_aload_n hΓ dJ6_init_2_47) rfl ?_
      obtain ⟨v11, e1, e⟩ := e
      refine xw_gi1 (o := p1) (show xm_Imp g Γ 48 (xi_get 14 2 51) from xs_get hG hΓ (ci := 14) (kf := 2) rfl (Nat.le_of_ble_eq_true rfl) q331 dJ6_init_2_48) ha1 e1 ?_
      refine xw_if (show xm_Imp g Γ 51 (xi_if (fun x => x = 0) 79 54) from xs_if_eq hΓ dJ6_init_2_51 (by decide)) (fun c => ?_) (fun c => ?_)
      · rw [if_pos c] at e
        exact xm_lx (hB_79 _ _ _ _ _ _ e) (And.intro rfl (And.intro rfl (And.intro rfl (trivial))))
      · rw [if_neg c] at e
        refine xw_ald (show xm_Imp g Γ 54 (xi_ald 0 55) from xs_aload_n hΓ dJ6_init_2_54) rfl ?_
        refine xw_aldo (x := v2) (show xm_Imp g Γ 55 (xi_ald 3 56) from xs_aload_n hΓ dJ6_init_2_55) rfl ?_
        refine xw_psh (v := (.int (0))) (show xm_Imp g Γ 56 (xi_psh (.int (0)) 57) from xs_iconst hΓ dJ6_init_2_56 (by decide)) ?_
        refine xw_ild (show xm_Imp g Γ 57 (xi_ild 4 59) from xs_iload hΓ dJ6_init_2_57) rfl ?_
        exact e.elim
  · rw [if_neg c] at e
    refine xw_ald (show xm_Imp g Γ 22 (xi_ald 0 23) from xs_aload_n hΓ dJ6_init_2_22) rfl ?_
    refine xw_psh (v := (.int (0))) (show xm_Imp g Γ 23 (xi_psh (.int (0)) 24) from xs_iconst hΓ dJ6_init_2_23 (by decide)) ?_
    obtain ⟨h12, e1, e⟩ := e
    refine xw_pt1 (o := (some p0)) (show xm_Imp g Γ 24 (xi_put 15 1 (.byte) 27) from xs_putF hG hΓ (ci := 15) (kf := 1) rfl (Nat.le_of_ble_eq_true rfl) rfl rfl rfl (by decide +kernel) q710 dJ6_init_2_24) rfl ⟨rfl, rfl⟩ e1 ?_
    refine xw_ald (show xm_Imp g Γ 27 (xi_ald 0 28) from xs_aload_n hΓ dJ6_init_2_27) rfl ?_
    refine xw_aldo (x := v2) (show xm_Imp g Γ 28 (xi_ald 3 29) from xs_aload_n hΓ dJ6_init_2_28) rfl ?_
    refine xw_psh (v := (.int (0))) (show xm_Imp g Γ 29 (xi_psh (.int (0)) 30) from xs_iconst hΓ dJ6_init_2_29 (by decide)) ?_
    refine xw_ild (show xm_Imp g Γ 30 (xi_ild 4 32) from xs_iload hΓ dJ6_init_2_30) rfl ?_
    obtain ⟨m13, m14, ⟨em1, em2⟩, e⟩ := e
    refine xw_tsr3 (show xm_Imp g Γ 32 (xi_inv g M_J10_copyOfRange 15 3 35) from xs_invS hG hΓ k_J10_copyOfRange rfl q541 q542 dJ6_init_2_32) rfl em1 em2 (K_J10_copyOfRange hG v2 0 v3 _ _ _ e) (fun v16 h15 e => ?_)
    obtain ⟨h17, e1, e⟩ := e
    refine xw_pt1 (o := (some p0)) (show xm_Imp g Γ 35 (xi_put 15 0 (.array (.byte)) 38) from xs_putF hG hΓ (ci := 15) (kf := 0) rfl (Nat.le_of_ble_eq_true rfl) rfl rfl rfl (by decide +kernel) q709 dJ6_init_2_35) rfl (xv_fit (Or.inr ⟨_, rfl⟩) v16) e1 ?_
    refine xw_goto (show xm_Imp g Γ 38 (xi_goto 97) from xs_goto hΓ dJ6_init_2_38 (by decide)) ?_
    exact xw_vret (show xm_Imp g Γ 97 (xi_vret _) from xs_return hΓ rfl dJ6_init_2_97) ⟨rfl, e⟩
noncomputable def F_J6_init (g : xm_G) (p0 : Nat) (p1 : Option Nat) (h : xm_H) (bc : Nat) (bs : Nat) (Q : xm_H → Prop) : Prop :=
 xt_c bc bs (fun m1 m2 => F_J6_init_2 g p0 p1 none h m1 m2 (fun h3 =>
 Q h3))
set_option maxHeartbeats 4000000 in
theorem K_J6_init {g : xm_G} (hG : xm_Gw g) (p0 : Nat) (p1 : Option Nat) (h : xm_H) (bc : Nat) (bs : Nat) {Q : xm_H → Prop} (e : F_J6_init g p0 p1 h bc bs Q) : xm_Run g M_J6_init 17 [.ref p0, va_rf p1] h bc bs (fun v h' => v = none ∧ Q h') xm_no := by
  refine xm_Run.of2 (ls := [some (.ref p0), some (va_rf p1)]) pn_java_lang_String (by cases p1 <;> exact Nat.le_of_ble_eq_true rfl) (by cases p1 <;> rfl) (fun Γ hΓ => ?_)
  show xm_W g Γ 0 [some (.ref p0), some (va_rf p1)] [] h bc bs
  unfold F_J6_init at e
  refine xw_ald (show xm_Imp g Γ 0 (xi_ald 0 1) from xs_aload_n hΓ dJ6_init_0) rfl ?_
  refine xw_aldo (x := p1) (show xm_Imp g Γ 1 (xi_ald 1 2) from xs_aload_n hΓ dJ6_init_1) rfl ?_
  refine xw_psh (v := .null) (show xm_Imp g Γ 2 (xi_psh .null 3) from xs_null hΓ dJ6_init_2) ?_
  obtain ⟨m1, m2, ⟨em1, em2⟩, e⟩ := e
  refine xw_tpu2 (o := (some p0)) (show xm_Imp g Γ 3 (xi_spe g M_J6_init_2 16 2 6) from xs_invI hG hΓ k_J6_init_2 rfl q523 q524 rfl dJ6_init_3) rfl rfl em1 em2 (K_J6_init_2 hG p0 p1 none _ _ _ e) (fun h3 e => ?_)
  exact xw_vret (show xm_Imp g Γ 6 (xi_vret _) from xs_return hΓ rfl dJ6_init_6) ⟨rfl, e⟩
noncomputable def F_J5_toString (g : xm_G) (p0 : Nat) (h : xm_H) (bc : Nat) (bs : Nat) (Q : Option Nat → xm_H → Prop) : Prop :=
 xt_new h bc bs 4 (.inr (15, [.null, .int 0, .int 0, .int 0])) (fun a1 h2 b3 b4 =>
 xt_c b3 b4 (fun m5 m6 => F_J6_init g a1 (some p0) h2 m5 m6 (fun h7 =>
 Q (some a1) h7)))
set_option maxHeartbeats 4000000 in
theorem K_J5_toString {g : xm_G} (hG : xm_Gw g) (p0 : Nat) (h : xm_H) (bc : Nat) (bs : Nat) {Q : Option Nat → xm_H → Prop} (e : F_J5_toString g p0 h bc bs Q) : xm_Run g M_J5_toString 18 [.ref p0] h bc bs (fun v h' => ∃ r, v = some (va_rf r) ∧ Q r h') xm_no := by
  refine xm_Run.of pn_java_lang_StringBuilder (Nat.le_of_ble_eq_true rfl) (fun Γ hΓ => ?_)
  show xm_W g Γ 0 [some (.ref p0)] [] h bc bs
  unfold F_J5_toString at e
  refine xw_new (show xm_Imp g Γ 0 (xi_new 15 4 [.null, .int 0, .int 0, .int 0] 3) from xs_new hG hΓ (ci := 15) rfl q518 q519 q130 rfl tyJ6 tyJ6_ok (xm_df 4 (by decide +kernel)) dJ5_toString_0) e (fun a1 h2 b3 b4 e => ?_)
  refine xw_dup (show xm_Imp g Γ 3 (xi_dup 4) from xs_dup hΓ dJ5_toString_3) rfl ?_
  refine xw_ald (show xm_Imp g Γ 4 (xi_ald 0 5) from xs_aload_n hΓ dJ5_toString_4) rfl ?_
  obtain ⟨m5, m6, ⟨em1, em2⟩, e⟩ := e
  refine xw_tpu1 (o := (some a1)) (show xm_Imp g Γ 5 (xi_spe g M_J6_init 17 1 8) from xs_invI hG hΓ k_J6_init rfl q520 q521 rfl dJ5_toString_5) rfl rfl em1 em2 (K_J6_init hG a1 (some p0) _ _ _ e) (fun h7 e => ?_)
  exact xw_aret (show xm_Imp g Γ 8 (xi_aret _) from xs_areturn hΓ rfl (Or.inl ⟨_, rfl⟩) dJ5_toString_8) ⟨_, rfl, e⟩
noncomputable def D_X6_letters_8 (g : xm_G) (l0 : Nat) (l1 : Int32) (l2 : Int32) (l3 : Option Nat) (Q : Option Nat → xm_H → Prop) (k8 : xm_H × Nat × Nat → Prop) (s : xm_H × Nat × Nat) : Prop :=
 xt_b (xh_fi [(5, 1)] s.1 l0) (fun v9 =>
 xt_b (xh_is 5 s.1 l0) (fun _ =>
 xt_b (F_X6_byteAt g l0 v9 s.1) (fun v10 =>
 (if (F_X1_inRange v10 l1 l2) = 0 then
 xt_b l3 (fun a11 =>
 xt_b (xh_is 14 s.1 a11) (fun _ =>
 xt_c s.2.1 s.2.2 (fun m12 m13 => F_J5_toString g a11 s.1 m12 m13 (fun v15 h14 =>
 Q v15 h14)))) else
 xt_b (xh_fi [(5, 1)] s.1 l0) (fun v16 =>
 xt_b (xh_is 5 s.1 l0) (fun _ =>
 xt_b (F_X6_byteAt g l0 v16 s.1) (fun v17 =>
 xt_b l3 (fun a18 =>
 xt_b (xh_is 14 s.1 a18) (fun _ =>
 xt_c s.2.1 s.2.2 (fun m19 m20 => F_J5_append g a18 ((v17.toUInt32 % 65536).toInt32) s.1 m19 m20 (fun v22 h21 =>
 xt_b (xh_fi [(5, 1)] h21 l0) (fun v23 =>
 xt_b (xh_w [(5, 1)] h21 l0 (.int (v23 + 1))) (fun h24 =>
 k8 (h24, (s.2.1 - m19), (s.2.2 - m20)))))))))))))))
noncomputable def L_X6_letters_8 (g : xm_G) (l0 : Nat) (l1 : Int32) (l2 : Int32) (l3 : Option Nat) (Q : Option Nat → xm_H → Prop) (s : xm_H × Nat × Nat) : Prop := xt_loop (D_X6_letters_8 g l0 l1 l2 l3 Q) s
noncomputable def F_X6_letters (g : xm_G) (p0 : Nat) (p1 : Int32) (p2 : Int32) (h : xm_H) (bc : Nat) (bs : Nat) (Q : Option Nat → xm_H → Prop) : Prop :=
 xt_new h bc bs 4 (.inr (14, [.null, .int 0, .int 0, .int 0])) (fun a1 h2 b3 b4 =>
 xt_c b3 b4 (fun m5 m6 => F_J5_init g a1 h2 m5 m6 (fun h7 =>
 L_X6_letters_8 g p0 p1 p2 (some a1) Q (h7, (b3 - m5), (b4 - m6)))))
set_option maxHeartbeats 4000000 in
theorem K_X6_letters {g : xm_G} (hG : xm_Gw g) (p0 : Nat) (p1 : Int32) (p2 : Int32) (h : xm_H) (bc : Nat) (bs : Nat) {Q : Option Nat → xm_H → Prop} (e : F_X6_letters g p0 p1 p2 h bc bs Q) : xm_Run g M_X6_letters 19 [.ref p0, .int p1, .int p2] h bc bs (fun v h' => ∃ r, v = some (va_rf r) ∧ Q r h') xm_no := by
  refine xm_Run.of pn_StringTableau_Parser (Nat.le_of_ble_eq_true rfl) (fun Γ hΓ => ?_)
  show xm_W g Γ 0 [some (.ref p0), some (.int p1), some (.int p2), none] [] h bc bs
  have hL_8 : ∀ (l0 : Nat) (l1 : Int32) (l2 : Int32) (l3 : Option Nat) (s : xm_H × Nat × Nat), L_X6_letters_8 g l0 l1 l2 l3 Q s → xm_W g Γ 8 [some (.ref l0), some (.int l1), some (.int l2), some (va_rf l3)] [] s.1 s.2.1 s.2.2 := by
    intro l0 l1 l2 l3
    refine xt_rule (WS := fun s : xm_H × Nat × Nat => xm_W g Γ 8 [some (.ref l0), some (.int l1), some (.int l2), some (va_rf l3)] [] s.1 s.2.1 s.2.2) ?_
    intro k8 hk8 s e
    unfold D_X6_letters_8 at e
    refine xw_ald (show xm_Imp g Γ 8 (xi_ald 0 9) from xs_aload_n hΓ dX6_letters_8) rfl ?_
    refine xw_ald (show xm_Imp g Γ 9 (xi_ald 0 10) from xs_aload_n hΓ dX6_letters_9) rfl ?_
    obtain ⟨v9, e1, e⟩ := e
    refine xw_gi1 (o := (some l0)) (show xm_Imp g Γ 10 (xi_get 5 1 13) from xs_get hG hΓ (ci := 5) (kf := 1) rfl (Nat.le_of_ble_eq_true rfl) q724 dX6_letters_10) rfl e1 ?_
    obtain ⟨_, e0, e⟩ := e
    obtain ⟨v10, e1, e⟩ := e
    refine xw_hv1 (o := (some l0)) (show xm_Imp g Γ 13 (xi_vir g 5 M_X6_byteAt 1 1 16) from xs_invV hG hΓ k_X6_byteAt rfl (ci := 5) rfl q408 q410 qs2 dX6_letters_13) rfl rfl e0 (fun Q X hQ => K_X6_byteAt hG l0 v9 _ e1 hQ) ?_
    refine xw_ild (show xm_Imp g Γ 16 (xi_ild 1 17) from xs_iload_n hΓ dX6_letters_16) rfl ?_
    refine xw_ild (show xm_Imp g Γ 17 (xi_ild 2 18) from xs_iload_n hΓ dX6_letters_17) rfl ?_
    refine xw_sv3 (show xm_Imp g Γ 18 (xi_inv g M_X1_inRange 1 3 21) from xs_invSN hG hΓ k_X1_inRange rfl q412 q388 dX6_letters_18) rfl (fun Q X hQ => K_X1_inRange hG v10 l1 l2 rfl hQ) ?_
    refine xw_if (show xm_Imp g Γ 21 (xi_if (fun x => x = 0) 51 24) from xs_if_eq hΓ dX6_letters_21 (by decide)) (fun c => ?_) (fun c => ?_)
    · rw [if_pos c] at e
      refine xw_aldo (x := l3) (show xm_Imp g Γ 51 (xi_ald 3 52) from xs_aload_n hΓ dX6_letters_51) rfl ?_
      obtain ⟨a11, ha11, e⟩ := e
      obtain ⟨_, e0, e⟩ := e
      obtain ⟨m12, m13, ⟨em1, em2⟩, e⟩ := e
      refine xw_tvr0 (o := l3) (show xm_Imp g Γ 52 (xi_vir g 14 M_J5_toString 18 0 55) from xs_invV hG hΓ k_J5_toString rfl (ci := 14) rfl q514 q515 q516 dX6_letters_52) (by simp [xm_stk, xv_cat, xc_int, xc_long, xc_float, xc_double, xc_ref]) ha11 e0 em1 em2 (K_J5_toString hG a11 _ _ _ e) (fun v15 h14 e => ?_)
      exact xw_areto (show xm_Imp g Γ 55 (xi_aret _) from xs_areturn hΓ rfl (Or.inl ⟨_, rfl⟩) dX6_letters_55) ⟨_, rfl, e⟩
    · rw [if_neg c] at e
      refine xw_aldo (x := l3) (show xm_Imp g Γ 24 (xi_ald 3 25) from xs_aload_n hΓ dX6_letters_24) rfl ?_
      refine xw_ald (show xm_Imp g Γ 25 (xi_ald 0 26) from xs_aload_n hΓ dX6_letters_25) rfl ?_
      refine xw_ald (show xm_Imp g Γ 26 (xi_ald 0 27) from xs_aload_n hΓ dX6_letters_26) rfl ?_
      obtain ⟨v16, e1, e⟩ := e
      refine xw_gi1 (o := (some l0)) (show xm_Imp g Γ 27 (xi_get 5 1 30) from xs_get hG hΓ (ci := 5) (kf := 1) rfl (Nat.le_of_ble_eq_true rfl) q724 dX6_letters_27) rfl e1 ?_
      obtain ⟨_, e0, e⟩ := e
      obtain ⟨v17, e1, e⟩ := e
      refine xw_hv1 (o := (some l0)) (show xm_Imp g Γ 30 (xi_vir g 5 M_X6_byteAt 1 1 33) from xs_invV hG hΓ k_X6_byteAt rfl (ci := 5) rfl q408 q410 qs2 dX6_letters_30) (by simp [xm_stk, xv_cat, xc_int, xc_long, xc_float, xc_double, xc_ref]) rfl e0 (fun Q X hQ => K_X6_byteAt hG l0 v16 _ e1 hQ) ?_
      refine xw_i1 (show xm_Imp g Γ 33 (xi_i1 (fun x => (x.toUInt32 % 65536).toInt32) 34) from xs_i2c hΓ dX6_letters_33) ?_
      obtain ⟨a18, ha18, e⟩ := e
      obtain ⟨_, e0, e⟩ := e
      obtain ⟨m19, m20, ⟨em1, em2⟩, e⟩ := e
      refine xw_tvr1 (o := l3) (show xm_Imp g Γ 34 (xi_vir g 14 M_J5_append 11 1 37) from xs_invV hG hΓ k_J5_append rfl (ci := 14) rfl q419 q420 q421 dX6_letters_34) (by simp [xm_stk, xv_cat, xc_int, xc_long, xc_float, xc_double, xc_ref]) ha18 e0 em1 em2 (K_J5_append hG a18 ((v17.toUInt32 % 65536).toInt32) _ _ _ e) (fun v22 h21 e => ?_)
      refine xw_pop (show xm_Imp g Γ 37 (xi_pop 38) from xs_pop hΓ dX6_letters_37) (xm_c1_rf v22) ?_
      refine xw_ald (show xm_Imp g Γ 38 (xi_ald 0 39) from xs_aload_n hΓ dX6_letters_38) rfl ?_
      refine xw_dup (show xm_Imp g Γ 39 (xi_dup 40) from xs_dup hΓ dX6_letters_39) rfl ?_
      obtain ⟨v23, e1, e⟩ := e
      refine xw_gi1 (o := (some l0)) (show xm_Imp g Γ 40 (xi_get 5 1 43) from xs_get hG hΓ (ci := 5) (kf := 1) rfl (Nat.le_of_ble_eq_true rfl) q724 dX6_letters_40) rfl e1 ?_
      refine xw_psh (v := (.int (1))) (show xm_Imp g Γ 43 (xi_psh (.int (1)) 44) from xs_iconst hΓ dX6_letters_43 (by decide)) ?_
      refine xw_ii (show xm_Imp g Γ 44 (xi_ii (fun x y => x + y) 45) from xs_iadd hΓ dX6_letters_44) ?_
      obtain ⟨h24, e1, e⟩ := e
      refine xw_pt1 (o := (some l0)) (show xm_Imp g Γ 45 (xi_put 5 1 (.int) 48) from xs_put hG hΓ (ci := 5) (kf := 1) rfl (Nat.le_of_ble_eq_true rfl) rfl (by decide +kernel) q724 dX6_letters_45) rfl (xf_int _) e1 ?_
      refine xw_goto (show xm_Imp g Γ 48 (xi_goto 8) from xs_goto hΓ dX6_letters_48 (by decide)) ?_
      have hq := hk8 _ e; exact hq
  unfold F_X6_letters at e
  refine xw_new (show xm_Imp g Γ 0 (xi_new 14 4 [.null, .int 0, .int 0, .int 0] 3) from xs_new hG hΓ (ci := 14) rfl q417 q311 q129 rfl tyJ5 tyJ5_ok (xm_df 4 (by decide +kernel)) dX6_letters_0) e (fun a1 h2 b3 b4 e => ?_)
  refine xw_dup (show xm_Imp g Γ 3 (xi_dup 4) from xs_dup hΓ dX6_letters_3) rfl ?_
  obtain ⟨m5, m6, ⟨em1, em2⟩, e⟩ := e
  refine xw_tpu0 (o := (some a1)) (show xm_Imp g Γ 4 (xi_spe g M_J5_init 3 0 7) from xs_invI hG hΓ k_J5_init rfl q418 q313 rfl dX6_letters_4) rfl rfl em1 em2 (K_J5_init hG a1 _ _ _ e) (fun h7 e => ?_)
  refine xw_ast (ls' := [some (.ref p0), some (.int p1), some (.int p2), some (.ref a1)]) (show xm_Imp g Γ 7 (xi_ast 3 8) from xs_astore_n hΓ dX6_letters_7 (Nat.le_of_ble_eq_true rfl)) rfl ?_
  exact hL_8 _ _ _ _ _ e
noncomputable def B_X6_advance_26 (g : xm_G) (l0 : Nat) (h : xm_H) (bc : Nat) (bs : Nat) (k0 : xm_H × Nat × Nat → Prop) (Q : xm_H → Prop) : Prop :=
 xt_b (xh_fi [(5, 1)] h l0) (fun v3 =>
 xt_b (xh_w [(5, 1)] h l0 (.int (v3 + 1))) (fun h4 =>
 k0 (h4, bc, bs)))
noncomputable def B_X6_advance_280 (g : xm_G) (l0 : Nat) (s0 : Option Nat) (s1 : Int32) (h : xm_H) (bc : Nat) (bs : Nat) (Q : xm_H → Prop) : Prop :=
 xt_b s0 (fun a14 =>
 xt_b (xh_w [(5, 3)] h a14 (.int s1)) (fun h15 =>
 xt_b (xh_fi [(5, 1)] h15 l0) (fun v16 =>
 xt_b (xh_w [(5, 1)] h15 l0 (.int (v16 + 1))) (fun h17 =>
 Q h17))))
noncomputable def B_X6_advance_240 (g : xm_G) (s0 : Option Nat) (s1 : Int32) (h : xm_H) (bc : Nat) (bs : Nat) (Q : xm_H → Prop) : Prop :=
 xt_b s0 (fun a22 =>
 xt_b (xh_w [(5, 3)] h a22 (.int s1)) (fun h23 =>
 Q h23))
noncomputable def B_X6_advance_207 (g : xm_G) (l0 : Nat) (h : xm_H) (bc : Nat) (bs : Nat) (k153 : xm_H × Nat × Nat → Prop) (Q : xm_H → Prop) : Prop :=
 xt_b (xh_fi [(5, 1)] h l0) (fun v26 =>
 xt_b (xh_w [(5, 1)] h l0 (.int (v26 + 1))) (fun h27 =>
 k153 (h27, bc, bs)))
noncomputable def D_X6_advance_153 (g : xm_G) (l0 : Nat) (Q : xm_H → Prop) (k153 : xm_H × Nat × Nat → Prop) (s : xm_H × Nat × Nat) : Prop :=
 xt_b (xh_fi [(5, 1)] s.1 l0) (fun v18 =>
 xt_b (xh_is 5 s.1 l0) (fun _ =>
 xt_b (F_X6_byteAt g l0 v18 s.1) (fun v19 =>
 (if (F_X1_inRange v19 48 57) = 0 then
 xt_b (xh_fi [(5, 1)] s.1 l0) (fun v20 =>
 xt_b (xh_fi [(5, 2)] s.1 l0) (fun v21 =>
 B_X6_advance_240 g (some l0) (if (v20 - v21) ≤ (4 : Int32) then 3 else 7) s.1 s.2.1 s.2.2 Q)) else
 xt_b (xh_fi [(5, 1)] s.1 l0) (fun v24 =>
 xt_b (xh_fi [(5, 2)] s.1 l0) (fun v25 =>
 (if (4 : Int32) ≤ (v24 - v25) then
 B_X6_advance_207 g l0 s.1 s.2.1 s.2.2 k153 Q else
 xt_b (xh_fi [(5, 4)] s.1 l0) (fun v28 =>
 xt_b (xh_fi [(5, 1)] s.1 l0) (fun v29 =>
 xt_b (xh_is 5 s.1 l0) (fun _ =>
 xt_b (F_X6_byteAt g l0 v29 s.1) (fun v30 =>
 xt_b (xh_w [(5, 4)] s.1 l0 (.int (((10 * v28) + v30) - 48))) (fun h31 =>
 B_X6_advance_207 g l0 h31 s.2.1 s.2.2 k153 Q))))))))))))
noncomputable def L_X6_advance_153 (g : xm_G) (l0 : Nat) (Q : xm_H → Prop) (s : xm_H × Nat × Nat) : Prop := xt_loop (D_X6_advance_153 g l0 Q) s
noncomputable def D_X6_advance_0 (g : xm_G) (l0 : Nat) (Q : xm_H → Prop) (k0 : xm_H × Nat × Nat → Prop) (s : xm_H × Nat × Nat) : Prop :=
 xt_b (xh_fi [(5, 1)] s.1 l0) (fun v1 =>
 xt_b (xh_is 5 s.1 l0) (fun _ =>
 xt_b (F_X6_byteAt g l0 v1 s.1) (fun v2 =>
 (if v2 = (32 : Int32) then
 B_X6_advance_26 g l0 s.1 s.2.1 s.2.2 k0 Q else
 xt_b (xh_fi [(5, 1)] s.1 l0) (fun v5 =>
 xt_b (xh_is 5 s.1 l0) (fun _ =>
 xt_b (F_X6_byteAt g l0 v5 s.1) (fun v6 =>
 (if v6 = (10 : Int32) then
 B_X6_advance_26 g l0 s.1 s.2.1 s.2.2 k0 Q else
 xt_b (xh_fi [(5, 1)] s.1 l0) (fun v7 =>
 xt_b (xh_w [(5, 2)] s.1 l0 (.int v7)) (fun h8 =>
 xt_b (xh_fi [(5, 1)] h8 l0) (fun v9 =>
 xt_b (xh_is 5 h8 l0) (fun _ =>
 xt_b (F_X6_byteAt g l0 v9 h8) (fun v10 =>
 xt_b (xh_w [(5, 9)] h8 l0 (.ref (xm_sa g "StringTableau$Parser" 22))) (fun h11 =>
 xt_b (xh_w [(5, 4)] h11 l0 (.int 0)) (fun h12 =>
 (if v10 = ((-1) : Int32) then
 xt_b (xh_w [(5, 3)] h12 l0 (.int 0)) (fun h13 =>
 Q h13) else
 (if (F_X1_inRange v10 97 122) = 0 then
 (if (F_X1_inRange v10 65 90) = 0 then
 (if (F_X1_inRange v10 48 57) = 0 then
 B_X6_advance_280 g l0 (some l0) (if v10 = (59 : Int32) then 6 else (if v10 = (43 : Int32) then 4 else (if v10 = (45 : Int32) then 5 else 7))) h12 s.2.1 s.2.2 Q else
 L_X6_advance_153 g l0 Q (h12, s.2.1, s.2.2)) else
 xt_b (xh_is 5 h12 l0) (fun _ =>
 xt_c s.2.1 s.2.2 (fun m32 m33 => F_X6_letters g l0 65 90 h12 m32 m33 (fun v35 h34 =>
 xt_b (xh_w [(5, 9)] h34 l0 (va_rf v35)) (fun h36 =>
 xt_b (xh_w [(5, 3)] h36 l0 (.int 2)) (fun h37 =>
 Q h37)))))) else
 xt_b (xh_is 5 h12 l0) (fun _ =>
 xt_c s.2.1 s.2.2 (fun m38 m39 => F_X6_letters g l0 97 122 h12 m38 m39 (fun v41 h40 =>
 xt_b (xh_w [(5, 9)] h40 l0 (va_rf v41)) (fun h42 =>
 xt_b (xh_w [(5, 3)] h42 l0 (.int 1)) (fun h43 =>
 Q h43))))))))))))))))))))))
noncomputable def L_X6_advance_0 (g : xm_G) (l0 : Nat) (Q : xm_H → Prop) (s : xm_H × Nat × Nat) : Prop := xt_loop (D_X6_advance_0 g l0 Q) s
noncomputable def F_X6_advance (g : xm_G) (p0 : Nat) (h : xm_H) (bc : Nat) (bs : Nat) (Q : xm_H → Prop) : Prop :=
 L_X6_advance_0 g p0 Q (h, bc, bs)
set_option maxHeartbeats 4000000 in
theorem K_X6_advance {g : xm_G} (hG : xm_Gw g) (p0 : Nat) (h : xm_H) (bc : Nat) (bs : Nat) {Q : xm_H → Prop} (e : F_X6_advance g p0 h bc bs Q) : xm_Run g M_X6_advance 20 [.ref p0] h bc bs (fun v h' => v = none ∧ Q h') xm_no := by
  refine xm_Run.of pn_StringTableau_Parser (Nat.le_of_ble_eq_true rfl) (fun Γ hΓ => ?_)
  show xm_W g Γ 0 [some (.ref p0), none] [] h bc bs
  have hB_280 : ∀ (l0 : Nat) (s0 : Option Nat) (s1 : Int32) (h : xm_H) (bc : Nat) (bs : Nat), B_X6_advance_280 g l0 s0 s1 h bc bs Q → xm_W g Γ 280 [some (.ref l0), none] [.int s1, va_rf s0] h bc bs := by
    intro l0 s0 s1 h bc bs e
    unfold B_X6_advance_280 at e
    obtain ⟨a14, ha14, e⟩ := e
    obtain ⟨h15, e1, e⟩ := e
    refine xw_pt1 (o := s0) (show xm_Imp g Γ 280 (xi_put 5 3 (.int) 283) from xs_put hG hΓ (ci := 5) (kf := 3) rfl (Nat.le_of_ble_eq_true rfl) rfl (by decide +kernel) q726 dX6_advance_280) ha14 (xf_int _) e1 ?_
    refine xw_ald (show xm_Imp g Γ 283 (xi_ald 0 284) from xs_aload_n hΓ dX6_advance_283) rfl ?_
    refine xw_dup (show xm_Imp g Γ 284 (xi_dup 285) from xs_dup hΓ dX6_advance_284) rfl ?_
    obtain ⟨v16, e1, e⟩ := e
    refine xw_gi1 (o := (some l0)) (show xm_Imp g Γ 285 (xi_get 5 1 288) from xs_get hG hΓ (ci := 5) (kf := 1) rfl (Nat.le_of_ble_eq_true rfl) q724 dX6_advance_285) rfl e1 ?_
    refine xw_psh (v := (.int (1))) (show xm_Imp g Γ 288 (xi_psh (.int (1)) 289) from xs_iconst hΓ dX6_advance_288 (by decide)) ?_
    refine xw_ii (show xm_Imp g Γ 289 (xi_ii (fun x y => x + y) 290) from xs_iadd hΓ dX6_advance_289) ?_
    obtain ⟨h17, e1, e⟩ := e
    refine xw_pt1 (o := (some l0)) (show xm_Imp g Γ 290 (xi_put 5 1 (.int) 293) from xs_put hG hΓ (ci := 5) (kf := 1) rfl (Nat.le_of_ble_eq_true rfl) rfl (by decide +kernel) q724 dX6_advance_290) rfl (xf_int _) e1 ?_
    exact xw_vret (show xm_Imp g Γ 293 (xi_vret _) from xs_return hΓ rfl dX6_advance_293) ⟨rfl, e⟩
  have hB_240 : ∀ (s0 : Option Nat) (s1 : Int32) (h : xm_H) (bc : Nat) (bs : Nat), B_X6_advance_240 g s0 s1 h bc bs Q → xm_W g Γ 240 [none, none] [.int s1, va_rf s0] h bc bs := by
    intro s0 s1 h bc bs e
    unfold B_X6_advance_240 at e
    obtain ⟨a22, ha22, e⟩ := e
    obtain ⟨h23, e1, e⟩ := e
    refine xw_pt1 (o := s0) (show xm_Imp g Γ 240 (xi_put 5 3 (.int) 243) from xs_put hG hΓ (ci := 5) (kf := 3) rfl (Nat.le_of_ble_eq_true rfl) rfl (by decide +kernel) q726 dX6_advance_240) ha22 (xf_int _) e1 ?_
    refine xw_goto (show xm_Imp g Γ 243 (xi_goto 293) from xs_goto hΓ dX6_advance_243 (by decide)) ?_
    exact xw_vret (show xm_Imp g Γ 293 (xi_vret _) from xs_return hΓ rfl dX6_advance_293) ⟨rfl, e⟩
  have hL_153 : ∀ (l0 : Nat) (s : xm_H × Nat × Nat), L_X6_advance_153 g l0 Q s → xm_W g Γ 153 [some (.ref l0), none] [] s.1 s.2.1 s.2.2 := by
    intro l0
    refine xt_rule (WS := fun s : xm_H × Nat × Nat => xm_W g Γ 153 [some (.ref l0), none] [] s.1 s.2.1 s.2.2) ?_
    intro k153 hk153 s e
    have hB_207 : ∀ (h : xm_H) (bc : Nat) (bs : Nat), B_X6_advance_207 g l0 h bc bs k153 Q → xm_W g Γ 207 [some (.ref l0), none] [] h bc bs := by
      intro h bc bs e
      unfold B_X6_advance_207 at e
      refine xw_ald (show xm_Imp g Γ 207 (xi_ald 0 208) from xs_aload_n hΓ dX6_advance_207) rfl ?_
      refine xw_dup (show xm_Imp g Γ 208 (xi_dup 209) from xs_dup hΓ dX6_advance_208) rfl ?_
      obtain ⟨v26, e1, e⟩ := e
      refine xw_gi1 (o := (some l0)) (show xm_Imp g Γ 209 (xi_get 5 1 212) from xs_get hG hΓ (ci := 5) (kf := 1) rfl (Nat.le_of_ble_eq_true rfl) q724 dX6_advance_209) rfl e1 ?_
      refine xw_psh (v := (.int (1))) (show xm_Imp g Γ 212 (xi_psh (.int (1)) 213) from xs_iconst hΓ dX6_advance_212 (by decide)) ?_
      refine xw_ii (show xm_Imp g Γ 213 (xi_ii (fun x y => x + y) 214) from xs_iadd hΓ dX6_advance_213) ?_
      obtain ⟨h27, e1, e⟩ := e
      refine xw_pt1 (o := (some l0)) (show xm_Imp g Γ 214 (xi_put 5 1 (.int) 217) from xs_put hG hΓ (ci := 5) (kf := 1) rfl (Nat.le_of_ble_eq_true rfl) rfl (by decide +kernel) q724 dX6_advance_214) rfl (xf_int _) e1 ?_
      refine xw_goto (show xm_Imp g Γ 217 (xi_goto 153) from xs_goto hΓ dX6_advance_217 (by decide)) ?_
      have hq := hk153 _ e; exact hq
    unfold D_X6_advance_153 at e
    refine xw_ald (show xm_Imp g Γ 153 (xi_ald 0 154) from xs_aload_n hΓ dX6_advance_153) rfl ?_
    refine xw_ald (show xm_Imp g Γ 154 (xi_ald 0 155) from xs_aload_n hΓ dX6_advance_154) rfl ?_
    obtain ⟨v18, e1, e⟩ := e
    refine xw_gi1 (o := (some l0)) (show xm_Imp g Γ 155 (xi_get 5 1 158) from xs_get hG hΓ (ci := 5) (kf := 1) rfl (Nat.le_of_ble_eq_true rfl) q724 dX6_advance_155) rfl e1 ?_
    obtain ⟨_, e0, e⟩ := e
    obtain ⟨v19, e1, e⟩ := e
    refine xw_hv1 (o := (some l0)) (show xm_Imp g Γ 158 (xi_vir g 5 M_X6_byteAt 1 1 161) from xs_invV hG hΓ k_X6_byteAt rfl (ci := 5) rfl q408 q410 qs2 dX6_advance_158) rfl rfl e0 (fun Q X hQ => K_X6_byteAt hG l0 v18 _ e1 hQ) ?_
    refine xw_psh (v := (.int (48))) (show xm_Imp g Γ 161 (xi_psh (.int (48)) 163) from xs_bipush hΓ dX6_advance_161 (by decide)) ?_
    refine xw_psh (v := (.int (57))) (show xm_Imp g Γ 163 (xi_psh (.int (57)) 165) from xs_bipush hΓ dX6_advance_163 (by decide)) ?_
    refine xw_sv3 (show xm_Imp g Γ 165 (xi_inv g M_X1_inRange 1 3 168) from xs_invSN hG hΓ k_X1_inRange rfl q412 q388 dX6_advance_165) rfl (fun Q X hQ => K_X1_inRange hG v19 48 57 rfl hQ) ?_
    refine xw_if (show xm_Imp g Γ 168 (xi_if (fun x => x = 0) 220 171) from xs_if_eq hΓ dX6_advance_168 (by decide)) (fun c => ?_) (fun c => ?_)
    · rw [if_pos c] at e
      refine xw_ald (show xm_Imp g Γ 220 (xi_ald 0 221) from xs_aload_n hΓ dX6_advance_220) rfl ?_
      refine xw_ald (show xm_Imp g Γ 221 (xi_ald 0 222) from xs_aload_n hΓ dX6_advance_221) rfl ?_
      obtain ⟨v20, e1, e⟩ := e
      refine xw_gi1 (o := (some l0)) (show xm_Imp g Γ 222 (xi_get 5 1 225) from xs_get hG hΓ (ci := 5) (kf := 1) rfl (Nat.le_of_ble_eq_true rfl) q724 dX6_advance_222) rfl e1 ?_
      refine xw_ald (show xm_Imp g Γ 225 (xi_ald 0 226) from xs_aload_n hΓ dX6_advance_225) rfl ?_
      obtain ⟨v21, e1, e⟩ := e
      refine xw_gi1 (o := (some l0)) (show xm_Imp g Γ 226 (xi_get 5 2 229) from xs_get hG hΓ (ci := 5) (kf := 2) rfl (Nat.le_of_ble_eq_true rfl) q725 dX6_advance_226) rfl e1 ?_
      refine xw_ii (show xm_Imp g Γ 229 (xi_ii (fun x y => x - y) 230) from xs_isub hΓ dX6_advance_229) ?_
      refine xw_psh (v := (.int (4))) (show xm_Imp g Γ 230 (xi_psh (.int (4)) 231) from xs_iconst hΓ dX6_advance_230 (by decide)) ?_
      refine xw_ic (show xm_Imp g Γ 231 (xi_ic (fun x y => x ≤ y) 239 234) from xs_icmp_le hΓ dX6_advance_231 (by decide)) (fun c => ?_) (fun c => ?_)
      · rw [if_pos c] at e
        refine xw_psh (v := (.int (3))) (show xm_Imp g Γ 239 (xi_psh (.int (3)) 240) from xs_iconst hΓ dX6_advance_239 (by decide)) ?_
        exact xm_lx (hB_240 _ _ _ _ _ e) (trivial)
      · rw [if_neg c] at e
        refine xw_psh (v := (.int (7))) (show xm_Imp g Γ 234 (xi_psh (.int (7)) 236) from xs_bipush hΓ dX6_advance_234 (by decide)) ?_
        refine xw_goto (show xm_Imp g Γ 236 (xi_goto 240) from xs_goto hΓ dX6_advance_236 (by decide)) ?_
        exact xm_lx (hB_240 _ _ _ _ _ e) (trivial)
    · rw [if_neg c] at e
      refine xw_ald (show xm_Imp g Γ 171 (xi_ald 0 172) from xs_aload_n hΓ dX6_advance_171) rfl ?_
      obtain ⟨v24, e1, e⟩ := e
      refine xw_gi1 (o := (some l0)) (show xm_Imp g Γ 172 (xi_get 5 1 175) from xs_get hG hΓ (ci := 5) (kf := 1) rfl (Nat.le_of_ble_eq_true rfl) q724 dX6_advance_172) rfl e1 ?_
      refine xw_ald (show xm_Imp g Γ 175 (xi_ald 0 176) from xs_aload_n hΓ dX6_advance_175) rfl ?_
      obtain ⟨v25, e1, e⟩ := e
      refine xw_gi1 (o := (some l0)) (show xm_Imp g Γ 176 (xi_get 5 2 179) from xs_get hG hΓ (ci := 5) (kf := 2) rfl (Nat.le_of_ble_eq_true rfl) q725 dX6_advance_176) rfl e1 ?_
      refine xw_ii (show xm_Imp g Γ 179 (xi_ii (fun x y => x - y) 180) from xs_isub hΓ dX6_advance_179) ?_
      refine xw_psh (v := (.int (4))) (show xm_Imp g Γ 180 (xi_psh (.int (4)) 181) from xs_iconst hΓ dX6_advance_180 (by decide)) ?_
      refine xw_ic (show xm_Imp g Γ 181 (xi_ic (fun x y => y ≤ x) 207 184) from xs_icmp_ge hΓ dX6_advance_181 (by decide)) (fun c => ?_) (fun c => ?_)
      · rw [if_pos c] at e
        exact hB_207 _ _ _ e
      · rw [if_neg c] at e
        refine xw_ald (show xm_Imp g Γ 184 (xi_ald 0 185) from xs_aload_n hΓ dX6_advance_184) rfl ?_
        refine xw_psh (v := (.int (10))) (show xm_Imp g Γ 185 (xi_psh (.int (10)) 187) from xs_bipush hΓ dX6_advance_185 (by decide)) ?_
        refine xw_ald (show xm_Imp g Γ 187 (xi_ald 0 188) from xs_aload_n hΓ dX6_advance_187) rfl ?_
        obtain ⟨v28, e1, e⟩ := e
        refine xw_gi1 (o := (some l0)) (show xm_Imp g Γ 188 (xi_get 5 4 191) from xs_get hG hΓ (ci := 5) (kf := 4) rfl (Nat.le_of_ble_eq_true rfl) q727 dX6_advance_188) rfl e1 ?_
        refine xw_ii (show xm_Imp g Γ 191 (xi_ii (fun x y => x * y) 192) from xs_imul hΓ dX6_advance_191) ?_
        refine xw_ald (show xm_Imp g Γ 192 (xi_ald 0 193) from xs_aload_n hΓ dX6_advance_192) rfl ?_
        refine xw_ald (show xm_Imp g Γ 193 (xi_ald 0 194) from xs_aload_n hΓ dX6_advance_193) rfl ?_
        obtain ⟨v29, e1, e⟩ := e
        refine xw_gi1 (o := (some l0)) (show xm_Imp g Γ 194 (xi_get 5 1 197) from xs_get hG hΓ (ci := 5) (kf := 1) rfl (Nat.le_of_ble_eq_true rfl) q724 dX6_advance_194) rfl e1 ?_
        obtain ⟨_, e0, e⟩ := e
        obtain ⟨v30, e1, e⟩ := e
        refine xw_hv1 (o := (some l0)) (show xm_Imp g Γ 197 (xi_vir g 5 M_X6_byteAt 1 1 200) from xs_invV hG hΓ k_X6_byteAt rfl (ci := 5) rfl q408 q410 qs2 dX6_advance_197) rfl rfl e0 (fun Q X hQ => K_X6_byteAt hG l0 v29 _ e1 hQ) ?_
        refine xw_ii (show xm_Imp g Γ 200 (xi_ii (fun x y => x + y) 201) from xs_iadd hΓ dX6_advance_200) ?_
        refine xw_psh (v := (.int (48))) (show xm_Imp g Γ 201 (xi_psh (.int (48)) 203) from xs_bipush hΓ dX6_advance_201 (by decide)) ?_
        refine xw_ii (show xm_Imp g Γ 203 (xi_ii (fun x y => x - y) 204) from xs_isub hΓ dX6_advance_203) ?_
        obtain ⟨h31, e1, e⟩ := e
        refine xw_pt1 (o := (some l0)) (show xm_Imp g Γ 204 (xi_put 5 4 (.int) 207) from xs_put hG hΓ (ci := 5) (kf := 4) rfl (Nat.le_of_ble_eq_true rfl) rfl (by decide +kernel) q727 dX6_advance_204) rfl (xf_int _) e1 ?_
        exact hB_207 _ _ _ e
  have hL_0 : ∀ (l0 : Nat) (s : xm_H × Nat × Nat), L_X6_advance_0 g l0 Q s → xm_W g Γ 0 [some (.ref l0), none] [] s.1 s.2.1 s.2.2 := by
    intro l0
    refine xt_rule (WS := fun s : xm_H × Nat × Nat => xm_W g Γ 0 [some (.ref l0), none] [] s.1 s.2.1 s.2.2) ?_
    intro k0 hk0 s e
    have hB_26 : ∀ (h : xm_H) (bc : Nat) (bs : Nat), B_X6_advance_26 g l0 h bc bs k0 Q → xm_W g Γ 26 [some (.ref l0), none] [] h bc bs := by
      intro h bc bs e
      unfold B_X6_advance_26 at e
      refine xw_ald (show xm_Imp g Γ 26 (xi_ald 0 27) from xs_aload_n hΓ dX6_advance_26) rfl ?_
      refine xw_dup (show xm_Imp g Γ 27 (xi_dup 28) from xs_dup hΓ dX6_advance_27) rfl ?_
      obtain ⟨v3, e1, e⟩ := e
      refine xw_gi1 (o := (some l0)) (show xm_Imp g Γ 28 (xi_get 5 1 31) from xs_get hG hΓ (ci := 5) (kf := 1) rfl (Nat.le_of_ble_eq_true rfl) q724 dX6_advance_28) rfl e1 ?_
      refine xw_psh (v := (.int (1))) (show xm_Imp g Γ 31 (xi_psh (.int (1)) 32) from xs_iconst hΓ dX6_advance_31 (by decide)) ?_
      refine xw_ii (show xm_Imp g Γ 32 (xi_ii (fun x y => x + y) 33) from xs_iadd hΓ dX6_advance_32) ?_
      obtain ⟨h4, e1, e⟩ := e
      refine xw_pt1 (o := (some l0)) (show xm_Imp g Γ 33 (xi_put 5 1 (.int) 36) from xs_put hG hΓ (ci := 5) (kf := 1) rfl (Nat.le_of_ble_eq_true rfl) rfl (by decide +kernel) q724 dX6_advance_33) rfl (xf_int _) e1 ?_
      refine xw_goto (show xm_Imp g Γ 36 (xi_goto 0) from xs_goto hΓ dX6_advance_36 (by decide)) ?_
      have hq := hk0 _ e; exact hq
    unfold D_X6_advance_0 at e
    refine xw_ald (show xm_Imp g Γ 0 (xi_ald 0 1) from xs_aload_n hΓ dX6_advance_0) rfl ?_
    refine xw_ald (show xm_Imp g Γ 1 (xi_ald 0 2) from xs_aload_n hΓ dX6_advance_1) rfl ?_
    obtain ⟨v1, e1, e⟩ := e
    refine xw_gi1 (o := (some l0)) (show xm_Imp g Γ 2 (xi_get 5 1 5) from xs_get hG hΓ (ci := 5) (kf := 1) rfl (Nat.le_of_ble_eq_true rfl) q724 dX6_advance_2) rfl e1 ?_
    obtain ⟨_, e0, e⟩ := e
    obtain ⟨v2, e1, e⟩ := e
    refine xw_hv1 (o := (some l0)) (show xm_Imp g Γ 5 (xi_vir g 5 M_X6_byteAt 1 1 8) from xs_invV hG hΓ k_X6_byteAt rfl (ci := 5) rfl q408 q410 qs2 dX6_advance_5) rfl rfl e0 (fun Q X hQ => K_X6_byteAt hG l0 v1 _ e1 hQ) ?_
    refine xw_psh (v := (.int (32))) (show xm_Imp g Γ 8 (xi_psh (.int (32)) 10) from xs_bipush hΓ dX6_advance_8 (by decide)) ?_
    refine xw_ic (show xm_Imp g Γ 10 (xi_ic (fun x y => x = y) 26 13) from xs_icmp_eq hΓ dX6_advance_10 (by decide)) (fun c => ?_) (fun c => ?_)
    · rw [if_pos c] at e
      exact hB_26 _ _ _ e
    · rw [if_neg c] at e
      refine xw_ald (show xm_Imp g Γ 13 (xi_ald 0 14) from xs_aload_n hΓ dX6_advance_13) rfl ?_
      refine xw_ald (show xm_Imp g Γ 14 (xi_ald 0 15) from xs_aload_n hΓ dX6_advance_14) rfl ?_
      obtain ⟨v5, e1, e⟩ := e
      refine xw_gi1 (o := (some l0)) (show xm_Imp g Γ 15 (xi_get 5 1 18) from xs_get hG hΓ (ci := 5) (kf := 1) rfl (Nat.le_of_ble_eq_true rfl) q724 dX6_advance_15) rfl e1 ?_
      obtain ⟨_, e0, e⟩ := e
      obtain ⟨v6, e1, e⟩ := e
      refine xw_hv1 (o := (some l0)) (show xm_Imp g Γ 18 (xi_vir g 5 M_X6_byteAt 1 1 21) from xs_invV hG hΓ k_X6_byteAt rfl (ci := 5) rfl q408 q410 qs2 dX6_advance_18) rfl rfl e0 (fun Q X hQ => K_X6_byteAt hG l0 v5 _ e1 hQ) ?_
      refine xw_psh (v := (.int (10))) (show xm_Imp g Γ 21 (xi_psh (.int (10)) 23) from xs_bipush hΓ dX6_advance_21 (by decide)) ?_
      refine xw_ic (show xm_Imp g Γ 23 (xi_ic (fun x y => x = y) 26 39) from xs_icmp_ne hΓ dX6_advance_23 (by decide)) (fun c => ?_) (fun c => ?_)
      · rw [if_pos c] at e
        exact hB_26 _ _ _ e
      · rw [if_neg c] at e
        refine xw_ald (show xm_Imp g Γ 39 (xi_ald 0 40) from xs_aload_n hΓ dX6_advance_39) rfl ?_
        refine xw_ald (show xm_Imp g Γ 40 (xi_ald 0 41) from xs_aload_n hΓ dX6_advance_40) rfl ?_
        obtain ⟨v7, e1, e⟩ := e
        refine xw_gi1 (o := (some l0)) (show xm_Imp g Γ 41 (xi_get 5 1 44) from xs_get hG hΓ (ci := 5) (kf := 1) rfl (Nat.le_of_ble_eq_true rfl) q724 dX6_advance_41) rfl e1 ?_
        obtain ⟨h8, e1, e⟩ := e
        refine xw_pt1 (o := (some l0)) (show xm_Imp g Γ 44 (xi_put 5 2 (.int) 47) from xs_put hG hΓ (ci := 5) (kf := 2) rfl (Nat.le_of_ble_eq_true rfl) rfl (by decide +kernel) q725 dX6_advance_44) rfl (xf_int _) e1 ?_
        refine xw_ald (show xm_Imp g Γ 47 (xi_ald 0 48) from xs_aload_n hΓ dX6_advance_47) rfl ?_
        refine xw_ald (show xm_Imp g Γ 48 (xi_ald 0 49) from xs_aload_n hΓ dX6_advance_48) rfl ?_
        obtain ⟨v9, e1, e⟩ := e
        refine xw_gi1 (o := (some l0)) (show xm_Imp g Γ 49 (xi_get 5 1 52) from xs_get hG hΓ (ci := 5) (kf := 1) rfl (Nat.le_of_ble_eq_true rfl) q724 dX6_advance_49) rfl e1 ?_
        obtain ⟨_, e0, e⟩ := e
        obtain ⟨v10, e1, e⟩ := e
        refine xw_hv1 (o := (some l0)) (show xm_Imp g Γ 52 (xi_vir g 5 M_X6_byteAt 1 1 55) from xs_invV hG hΓ k_X6_byteAt rfl (ci := 5) rfl q408 q410 qs2 dX6_advance_52) rfl rfl e0 (fun Q X hQ => K_X6_byteAt hG l0 v9 _ e1 hQ) ?_
        refine xw_ist (ls' := [some (.ref l0), some (.int v10)]) (show xm_Imp g Γ 55 (xi_ist 1 56) from xs_istore_n hΓ dX6_advance_55 (Nat.le_of_ble_eq_true rfl)) rfl ?_
        refine xw_ald (show xm_Imp g Γ 56 (xi_ald 0 57) from xs_aload_n hΓ dX6_advance_56) rfl ?_
        refine xw_psh (v := (.ref (xm_sa g "StringTableau$Parser" 22))) (show xm_Imp g Γ 57 (xi_psh (.ref (xm_sa g "StringTableau$Parser" 22)) 59) from xs_ldS hG hΓ q403 dX6_advance_57) ?_
        obtain ⟨h11, e1, e⟩ := e
        refine xw_pt1 (o := (some l0)) (show xm_Imp g Γ 59 (xi_put 5 9 (.object "java/lang/String") 62) from xs_put hG hΓ (ci := 5) (kf := 9) rfl (Nat.le_of_ble_eq_true rfl) rfl (by decide +kernel) q732 dX6_advance_59) rfl (xv_fit (Or.inl ⟨_, rfl⟩) (some (xm_sa g "StringTableau$Parser" 22))) e1 ?_
        refine xw_ald (show xm_Imp g Γ 62 (xi_ald 0 63) from xs_aload_n hΓ dX6_advance_62) rfl ?_
        refine xw_psh (v := (.int (0))) (show xm_Imp g Γ 63 (xi_psh (.int (0)) 64) from xs_iconst hΓ dX6_advance_63 (by decide)) ?_
        obtain ⟨h12, e1, e⟩ := e
        refine xw_pt1 (o := (some l0)) (show xm_Imp g Γ 64 (xi_put 5 4 (.int) 67) from xs_put hG hΓ (ci := 5) (kf := 4) rfl (Nat.le_of_ble_eq_true rfl) rfl (by decide +kernel) q727 dX6_advance_64) rfl (xf_int _) e1 ?_
        refine xw_ild (show xm_Imp g Γ 67 (xi_ild 1 68) from xs_iload_n hΓ dX6_advance_67) rfl ?_
        refine xw_psh (v := (.int (-1))) (show xm_Imp g Γ 68 (xi_psh (.int (-1)) 69) from xs_iconst hΓ dX6_advance_68 (by decide)) ?_
        refine xw_ic (show xm_Imp g Γ 69 (xi_ic (fun x y => x = y) 72 80) from xs_icmp_ne hΓ dX6_advance_69 (by decide)) (fun c => ?_) (fun c => ?_)
        · rw [if_pos c] at e
          refine xw_ald (show xm_Imp g Γ 72 (xi_ald 0 73) from xs_aload_n hΓ dX6_advance_72) rfl ?_
          refine xw_psh (v := (.int (0))) (show xm_Imp g Γ 73 (xi_psh (.int (0)) 74) from xs_iconst hΓ dX6_advance_73 (by decide)) ?_
          obtain ⟨h13, e1, e⟩ := e
          refine xw_pt1 (o := (some l0)) (show xm_Imp g Γ 74 (xi_put 5 3 (.int) 77) from xs_put hG hΓ (ci := 5) (kf := 3) rfl (Nat.le_of_ble_eq_true rfl) rfl (by decide +kernel) q726 dX6_advance_74) rfl (xf_int _) e1 ?_
          refine xw_goto (show xm_Imp g Γ 77 (xi_goto 293) from xs_goto hΓ dX6_advance_77 (by decide)) ?_
          exact xw_vret (show xm_Imp g Γ 293 (xi_vret _) from xs_return hΓ rfl dX6_advance_293) ⟨rfl, e⟩
        · rw [if_neg c] at e
          refine xw_ild (show xm_Imp g Γ 80 (xi_ild 1 81) from xs_iload_n hΓ dX6_advance_80) rfl ?_
          refine xw_psh (v := (.int (97))) (show xm_Imp g Γ 81 (xi_psh (.int (97)) 83) from xs_bipush hΓ dX6_advance_81 (by decide)) ?_
          refine xw_psh (v := (.int (122))) (show xm_Imp g Γ 83 (xi_psh (.int (122)) 85) from xs_bipush hΓ dX6_advance_83 (by decide)) ?_
          refine xw_sv3 (show xm_Imp g Γ 85 (xi_inv g M_X1_inRange 1 3 88) from xs_invSN hG hΓ k_X1_inRange rfl q412 q388 dX6_advance_85) rfl (fun Q X hQ => K_X1_inRange hG v10 97 122 rfl hQ) ?_
          refine xw_if (show xm_Imp g Γ 88 (xi_if (fun x => x = 0) 111 91) from xs_if_eq hΓ dX6_advance_88 (by decide)) (fun c => ?_) (fun c => ?_)
          · rw [if_pos c] at e
            refine xw_ild (show xm_Imp g Γ 111 (xi_ild 1 112) from xs_iload_n hΓ dX6_advance_111) rfl ?_
            refine xw_psh (v := (.int (65))) (show xm_Imp g Γ 112 (xi_psh (.int (65)) 114) from xs_bipush hΓ dX6_advance_112 (by decide)) ?_
            refine xw_psh (v := (.int (90))) (show xm_Imp g Γ 114 (xi_psh (.int (90)) 116) from xs_bipush hΓ dX6_advance_114 (by decide)) ?_
            refine xw_sv3 (show xm_Imp g Γ 116 (xi_inv g M_X1_inRange 1 3 119) from xs_invSN hG hΓ k_X1_inRange rfl q412 q388 dX6_advance_116) rfl (fun Q X hQ => K_X1_inRange hG v10 65 90 rfl hQ) ?_
            refine xw_if (show xm_Imp g Γ 119 (xi_if (fun x => x = 0) 142 122) from xs_if_eq hΓ dX6_advance_119 (by decide)) (fun c => ?_) (fun c => ?_)
            · rw [if_pos c] at e
              refine xw_ild (show xm_Imp g Γ 142 (xi_ild 1 143) from xs_iload_n hΓ dX6_advance_142) rfl ?_
              refine xw_psh (v := (.int (48))) (show xm_Imp g Γ 143 (xi_psh (.int (48)) 145) from xs_bipush hΓ dX6_advance_143 (by decide)) ?_
              refine xw_psh (v := (.int (57))) (show xm_Imp g Γ 145 (xi_psh (.int (57)) 147) from xs_bipush hΓ dX6_advance_145 (by decide)) ?_
              refine xw_sv3 (show xm_Imp g Γ 147 (xi_inv g M_X1_inRange 1 3 150) from xs_invSN hG hΓ k_X1_inRange rfl q412 q388 dX6_advance_147) rfl (fun Q X hQ => K_X1_inRange hG v10 48 57 rfl hQ) ?_
              refine xw_if (show xm_Imp g Γ 150 (xi_if (fun x => x = 0) 246 153) from xs_if_eq hΓ dX6_advance_150 (by decide)) (fun c => ?_) (fun c => ?_)
              · rw [if_pos c] at e
                refine xw_ald (show xm_Imp g Γ 246 (xi_ald 0 247) from xs_aload_n hΓ dX6_advance_246) rfl ?_
                refine xw_ild (show xm_Imp g Γ 247 (xi_ild 1 248) from xs_iload_n hΓ dX6_advance_247) rfl ?_
                refine xw_psh (v := (.int (59))) (show xm_Imp g Γ 248 (xi_psh (.int (59)) 250) from xs_bipush hΓ dX6_advance_248 (by decide)) ?_
                refine xw_ic (show xm_Imp g Γ 250 (xi_ic (fun x y => x = y) 253 258) from xs_icmp_ne hΓ dX6_advance_250 (by decide)) (fun c => ?_) (fun c => ?_)
                · rw [if_pos c] at e
                  refine xw_psh (v := (.int (6))) (show xm_Imp g Γ 253 (xi_psh (.int (6)) 255) from xs_bipush hΓ dX6_advance_253 (by decide)) ?_
                  refine xw_goto (show xm_Imp g Γ 255 (xi_goto 280) from xs_goto hΓ dX6_advance_255 (by decide)) ?_
                  exact xm_lx (hB_280 _ _ _ _ _ _ e) (And.intro rfl (trivial))
                · rw [if_neg c] at e
                  refine xw_ild (show xm_Imp g Γ 258 (xi_ild 1 259) from xs_iload_n hΓ dX6_advance_258) rfl ?_
                  refine xw_psh (v := (.int (43))) (show xm_Imp g Γ 259 (xi_psh (.int (43)) 261) from xs_bipush hΓ dX6_advance_259 (by decide)) ?_
                  refine xw_ic (show xm_Imp g Γ 261 (xi_ic (fun x y => x = y) 264 268) from xs_icmp_ne hΓ dX6_advance_261 (by decide)) (fun c => ?_) (fun c => ?_)
                  · rw [if_pos c] at e
                    refine xw_psh (v := (.int (4))) (show xm_Imp g Γ 264 (xi_psh (.int (4)) 265) from xs_iconst hΓ dX6_advance_264 (by decide)) ?_
                    refine xw_goto (show xm_Imp g Γ 265 (xi_goto 280) from xs_goto hΓ dX6_advance_265 (by decide)) ?_
                    exact xm_lx (hB_280 _ _ _ _ _ _ e) (And.intro rfl (trivial))
                  · rw [if_neg c] at e
                    refine xw_ild (show xm_Imp g Γ 268 (xi_ild 1 269) from xs_iload_n hΓ dX6_advance_268) rfl ?_
                    refine xw_psh (v := (.int (45))) (show xm_Imp g Γ 269 (xi_psh (.int (45)) 271) from xs_bipush hΓ dX6_advance_269 (by decide)) ?_
                    refine xw_ic (show xm_Imp g Γ 271 (xi_ic (fun x y => x = y) 274 278) from xs_icmp_ne hΓ dX6_advance_271 (by decide)) (fun c => ?_) (fun c => ?_)
                    · rw [if_pos c] at e
                      refine xw_psh (v := (.int (5))) (show xm_Imp g Γ 274 (xi_psh (.int (5)) 275) from xs_iconst hΓ dX6_advance_274 (by decide)) ?_
                      refine xw_goto (show xm_Imp g Γ 275 (xi_goto 280) from xs_goto hΓ dX6_advance_275 (by decide)) ?_
                      exact xm_lx (hB_280 _ _ _ _ _ _ e) (And.intro rfl (trivial))
                    · rw [if_neg c] at e
                      refine xw_psh (v := (.int (7))) (show xm_Imp g Γ 278 (xi_psh (.int (7)) 280) from xs_bipush hΓ dX6_advance_278 (by decide)) ?_
                      exact xm_lx (hB_280 _ _ _ _ _ _ e) (And.intro rfl (trivial))
              · rw [if_neg c] at e
                exact xm_lx (hL_153 _ _ e) (And.intro rfl (trivial))
            · rw [if_neg c] at e
              refine xw_ald (show xm_Imp g Γ 122 (xi_ald 0 123) from xs_aload_n hΓ dX6_advance_122) rfl ?_
              refine xw_ald (show xm_Imp g Γ 123 (xi_ald 0 124) from xs_aload_n hΓ dX6_advance_123) rfl ?_
              refine xw_psh (v := (.int (65))) (show xm_Imp g Γ 124 (xi_psh (.int (65)) 126) from xs_bipush hΓ dX6_advance_124 (by decide)) ?_
              refine xw_psh (v := (.int (90))) (show xm_Imp g Γ 126 (xi_psh (.int (90)) 128) from xs_bipush hΓ dX6_advance_126 (by decide)) ?_
              obtain ⟨_, e0, e⟩ := e
              obtain ⟨m32, m33, ⟨em1, em2⟩, e⟩ := e
              refine xw_tvr2 (o := (some l0)) (show xm_Imp g Γ 128 (xi_vir g 5 M_X6_letters 19 2 131) from xs_invV hG hΓ k_X6_letters rfl (ci := 5) rfl q413 q415 qs3 dX6_advance_128) rfl rfl e0 em1 em2 (K_X6_letters hG l0 65 90 _ _ _ e) (fun v35 h34 e => ?_)
              obtain ⟨h36, e1, e⟩ := e
              refine xw_pt1 (o := (some l0)) (show xm_Imp g Γ 131 (xi_put 5 9 (.object "java/lang/String") 134) from xs_put hG hΓ (ci := 5) (kf := 9) rfl (Nat.le_of_ble_eq_true rfl) rfl (by decide +kernel) q732 dX6_advance_131) rfl (xv_fit (Or.inl ⟨_, rfl⟩) v35) e1 ?_
              refine xw_ald (show xm_Imp g Γ 134 (xi_ald 0 135) from xs_aload_n hΓ dX6_advance_134) rfl ?_
              refine xw_psh (v := (.int (2))) (show xm_Imp g Γ 135 (xi_psh (.int (2)) 136) from xs_iconst hΓ dX6_advance_135 (by decide)) ?_
              obtain ⟨h37, e1, e⟩ := e
              refine xw_pt1 (o := (some l0)) (show xm_Imp g Γ 136 (xi_put 5 3 (.int) 139) from xs_put hG hΓ (ci := 5) (kf := 3) rfl (Nat.le_of_ble_eq_true rfl) rfl (by decide +kernel) q726 dX6_advance_136) rfl (xf_int _) e1 ?_
              refine xw_goto (show xm_Imp g Γ 139 (xi_goto 293) from xs_goto hΓ dX6_advance_139 (by decide)) ?_
              exact xw_vret (show xm_Imp g Γ 293 (xi_vret _) from xs_return hΓ rfl dX6_advance_293) ⟨rfl, e⟩
          · rw [if_neg c] at e
            refine xw_ald (show xm_Imp g Γ 91 (xi_ald 0 92) from xs_aload_n hΓ dX6_advance_91) rfl ?_
            refine xw_ald (show xm_Imp g Γ 92 (xi_ald 0 93) from xs_aload_n hΓ dX6_advance_92) rfl ?_
            refine xw_psh (v := (.int (97))) (show xm_Imp g Γ 93 (xi_psh (.int (97)) 95) from xs_bipush hΓ dX6_advance_93 (by decide)) ?_
            refine xw_psh (v := (.int (122))) (show xm_Imp g Γ 95 (xi_psh (.int (122)) 97) from xs_bipush hΓ dX6_advance_95 (by decide)) ?_
            obtain ⟨_, e0, e⟩ := e
            obtain ⟨m38, m39, ⟨em1, em2⟩, e⟩ := e
            refine xw_tvr2 (o := (some l0)) (show xm_Imp g Γ 97 (xi_vir g 5 M_X6_letters 19 2 100) from xs_invV hG hΓ k_X6_letters rfl (ci := 5) rfl q413 q415 qs3 dX6_advance_97) rfl rfl e0 em1 em2 (K_X6_letters hG l0 97 122 _ _ _ e) (fun v41 h40 e => ?_)
            obtain ⟨h42, e1, e⟩ := e
            refine xw_pt1 (o := (some l0)) (show xm_Imp g Γ 100 (xi_put 5 9 (.object "java/lang/String") 103) from xs_put hG hΓ (ci := 5) (kf := 9) rfl (Nat.le_of_ble_eq_true rfl) rfl (by decide +kernel) q732 dX6_advance_100) rfl (xv_fit (Or.inl ⟨_, rfl⟩) v41) e1 ?_
            refine xw_ald (show xm_Imp g Γ 103 (xi_ald 0 104) from xs_aload_n hΓ dX6_advance_103) rfl ?_
            refine xw_psh (v := (.int (1))) (show xm_Imp g Γ 104 (xi_psh (.int (1)) 105) from xs_iconst hΓ dX6_advance_104 (by decide)) ?_
            obtain ⟨h43, e1, e⟩ := e
            refine xw_pt1 (o := (some l0)) (show xm_Imp g Γ 105 (xi_put 5 3 (.int) 108) from xs_put hG hΓ (ci := 5) (kf := 3) rfl (Nat.le_of_ble_eq_true rfl) rfl (by decide +kernel) q726 dX6_advance_105) rfl (xf_int _) e1 ?_
            refine xw_goto (show xm_Imp g Γ 108 (xi_goto 293) from xs_goto hΓ dX6_advance_108 (by decide)) ?_
            exact xw_vret (show xm_Imp g Γ 293 (xi_vret _) from xs_return hΓ rfl dX6_advance_293) ⟨rfl, e⟩
  unfold F_X6_advance at e
  exact hL_0 _ _ e
noncomputable def F_X6_init (g : xm_G) (p0 : Nat) (p1 : Option Nat) (h : xm_H) (bc : Nat) (bs : Nat) (Q : xm_H → Prop) : Prop :=
 xt_b (xh_w [(5, 10)] h p0 (va_rf p1)) (fun h1 =>
 xt_new h1 bc bs 3 (.inr (12, [.int 0, .null, .int 0])) (fun a2 h3 b4 b5 =>
 xt_b (F_J2_init g a2 h3) (fun v6 =>
 xt_b (xh_w [(5, 0)] v6 p0 (.ref a2)) (fun h7 =>
 xt_b (xh_w [(5, 9)] h7 p0 (.ref (xm_sa g "StringTableau$Parser" 22))) (fun h8 =>
 xt_b (xh_is 5 h8 p0) (fun _ =>
 xt_c b4 b5 (fun m9 m10 => F_X6_advance g p0 h8 m9 m10 (fun h11 =>
 Q h11))))))))
set_option maxHeartbeats 4000000 in
theorem K_X6_init {g : xm_G} (hG : xm_Gw g) (p0 : Nat) (p1 : Option Nat) (h : xm_H) (bc : Nat) (bs : Nat) {Q : xm_H → Prop} (e : F_X6_init g p0 p1 h bc bs Q) : xm_Run g M_X6_init 21 [.ref p0, va_rf p1] h bc bs (fun v h' => v = none ∧ Q h') xm_no := by
  refine xm_Run.of2 (ls := [some (.ref p0), some (va_rf p1)]) pn_StringTableau_Parser (by cases p1 <;> exact Nat.le_of_ble_eq_true rfl) (by cases p1 <;> rfl) (fun Γ hΓ => ?_)
  show xm_W g Γ 0 [some (.ref p0), some (va_rf p1)] [] h bc bs
  unfold F_X6_init at e
  refine xw_ald (show xm_Imp g Γ 0 (xi_ald 0 1) from xs_aload_n hΓ dX6_init_0) rfl ?_
  refine xw_aldo (x := p1) (show xm_Imp g Γ 1 (xi_ald 1 2) from xs_aload_n hΓ dX6_init_1) rfl ?_
  obtain ⟨h1, e1, e⟩ := e
  refine xw_pt1 (o := (some p0)) (show xm_Imp g Γ 2 (xi_put 5 10 (.object "StringTableau") 5) from xs_putF hG hΓ (ci := 5) (kf := 10) rfl (Nat.le_of_ble_eq_true rfl) rfl rfl rfl (by decide +kernel) q733 dX6_init_2) rfl (xv_fit (Or.inl ⟨_, rfl⟩) p1) e1 ?_
  refine xw_ald (show xm_Imp g Γ 5 (xi_ald 0 6) from xs_aload_n hΓ dX6_init_5) rfl ?_
  refine xw_obj (o := some p0) (show xm_Imp g Γ 6 (xi_obj 9) from xs_obj hG hΓ rfl q400 dX6_init_6) rfl rfl ?_
  refine xw_ald (show xm_Imp g Γ 9 (xi_ald 0 10) from xs_aload_n hΓ dX6_init_9) rfl ?_
  refine xw_new (show xm_Imp g Γ 10 (xi_new 12 3 [.int 0, .null, .int 0] 13) from xs_new hG hΓ (ci := 12) rfl q401 q188 q124 rfl tyJ2 tyJ2_ok (xm_df 3 (by decide +kernel)) dX6_init_10) e (fun a2 h3 b4 b5 e => ?_)
  refine xw_dup (show xm_Imp g Γ 13 (xi_dup 14) from xs_dup hΓ dX6_init_13) rfl ?_
  obtain ⟨v6, e1, e⟩ := e
  refine xw_pu0 (o := (some a2)) (show xm_Imp g Γ 14 (xi_spe g M_J2_init 4 0 17) from xs_invI hG hΓ k_J2_init rfl q402 q190 rfl dX6_init_14) rfl rfl (fun Q X hQ => K_J2_init hG a2 _ e1 hQ) ?_
  obtain ⟨h7, e1, e⟩ := e
  refine xw_pt1 (o := (some p0)) (show xm_Imp g Γ 17 (xi_put 5 0 (.object "java/util/List") 20) from xs_putF hG hΓ (ci := 5) (kf := 0) rfl (Nat.le_of_ble_eq_true rfl) rfl rfl rfl (by decide +kernel) q722 dX6_init_17) rfl (xv_fit (Or.inl ⟨_, rfl⟩) (some a2)) e1 ?_
  refine xw_ald (show xm_Imp g Γ 20 (xi_ald 0 21) from xs_aload_n hΓ dX6_init_20) rfl ?_
  refine xw_psh (v := (.ref (xm_sa g "StringTableau$Parser" 22))) (show xm_Imp g Γ 21 (xi_psh (.ref (xm_sa g "StringTableau$Parser" 22)) 23) from xs_ldS hG hΓ q403 dX6_init_21) ?_
  obtain ⟨h8, e1, e⟩ := e
  refine xw_pt1 (o := (some p0)) (show xm_Imp g Γ 23 (xi_put 5 9 (.object "java/lang/String") 26) from xs_put hG hΓ (ci := 5) (kf := 9) rfl (Nat.le_of_ble_eq_true rfl) rfl (by decide +kernel) q732 dX6_init_23) rfl (xv_fit (Or.inl ⟨_, rfl⟩) (some (xm_sa g "StringTableau$Parser" 22))) e1 ?_
  refine xw_ald (show xm_Imp g Γ 26 (xi_ald 0 27) from xs_aload_n hΓ dX6_init_26) rfl ?_
  obtain ⟨_, e0, e⟩ := e
  obtain ⟨m9, m10, ⟨em1, em2⟩, e⟩ := e
  refine xw_tvu0 (o := (some p0)) (show xm_Imp g Γ 27 (xi_vir g 5 M_X6_advance 20 0 30) from xs_invV hG hΓ k_X6_advance rfl (ci := 5) rfl q404 q406 qs1 dX6_init_27) rfl rfl e0 em1 em2 (K_X6_advance hG p0 _ _ _ e) (fun h11 e => ?_)
  exact xw_vret (show xm_Imp g Γ 30 (xi_vret _) from xs_return hΓ rfl dX6_init_30) ⟨rfl, e⟩
noncomputable def D_J11_equals_9 (g : xm_G) (l0 : Option Nat) (l1 : Option Nat) (h : xm_H) (s : Int32) : Option ((Int32) ⊕ (Int32)) :=
 xo_b l0 (fun a5 =>
 xo_b (xh_len h a5) (fun v6 =>
 (if v6 ≤ s then
 xl_o (some 1) else
 xo_b (xh_ai .byte h a5 s) (fun v7 =>
 xo_b l1 (fun a8 =>
 xo_b (xh_ai .byte h a8 s) (fun v9 =>
 (if v7 = v9 then
 some (Sum.inl (s + 1)) else
 xl_o (some 0))))))))
noncomputable def L_J11_equals_9 (g : xm_G) (l0 : Option Nat) (l1 : Option Nat) (h : xm_H) (s : Int32) : Option (Int32) := xl_loop (D_J11_equals_9 g l0 l1 h) s
noncomputable def F_J11_equals (g : xm_G) (p0 : Option Nat) (p1 : Option Nat) (h : xm_H) : Option (Int32) :=
 xo_b p0 (fun a1 =>
 xo_b (xh_len h a1) (fun v2 =>
 xo_b p1 (fun a3 =>
 xo_b (xh_len h a3) (fun v4 =>
 (if v2 = v4 then
 L_J11_equals_9 g p0 p1 h 0 else
 some 0)))))
set_option maxHeartbeats 4000000 in
theorem K_J11_equals {g : xm_G} (hG : xm_Gw g) (p0 : Option Nat) (p1 : Option Nat) (h : xm_H) {o : Int32} (e : F_J11_equals g p0 p1 h = some o) {Q : xm_P} {X : xm_X} (hQ : Q (some (.int o)) h) : xm_Run g M_J11_equals 1 [va_rf p0, va_rf p1] h 0 0 Q X := by
  refine xm_Run.of2 (ls := [some (va_rf p0), some (va_rf p1), none]) pn_java_lang_StringLatin1 (by cases p0 <;> cases p1 <;> exact Nat.le_of_ble_eq_true rfl) (by cases p0 <;> cases p1 <;> rfl) (fun Γ hΓ => ?_)
  obtain ⟨P0, hP0, hp⟩ : ∃ P : Int32 → Prop, (∀ o, P o → Q (some (.int o)) h) ∧ P o := ⟨fun o => Q (some (.int o)) h, fun _ h => h, hQ⟩
  clear hQ
  show xm_W g Γ 0 [some (va_rf p0), some (va_rf p1), none] [] h 0 0
  have hL_9 : ∀ (l0 : Option Nat) (l1 : Option Nat) (s : Int32) (o : Int32), L_J11_equals_9 g l0 l1 h s = some o → P0 o → xm_W g Γ 9 [some (va_rf l0), some (va_rf l1), some (.int s)] [] h 0 0 := by
    intro l0 l1
    refine xl_rule (WS := fun s : Int32 => xm_W g Γ 9 [some (va_rf l0), some (va_rf l1), some (.int s)] [] h 0 0) ?_
    intro s o e hp
    obtain ⟨P1, hP1, hp⟩ : ∃ P : (Int32) ⊕ (Int32) → Prop, (∀ o, P o → xl_P (fun s : Int32 => xm_W g Γ 9 [some (va_rf l0), some (va_rf l1), some (.int s)] [] h 0 0) P0 o) ∧ P o := ⟨_, fun _ h => h, hp⟩
    unfold D_J11_equals_9 at e
    refine xw_ild (show xm_Imp g Γ 9 (xi_ild 2 10) from xs_iload_n hΓ dJ11_equals_9) rfl ?_
    refine xw_aldo (x := l0) (show xm_Imp g Γ 10 (xi_ald 0 11) from xs_aload_n hΓ dJ11_equals_10) rfl ?_
    obtain ⟨a5, ha5, e⟩ := xo_b_s e
    obtain ⟨v6, e1, e⟩ := xo_b_s e
    refine xw_hlen (o := l0) (show xm_Imp g Γ 11 (xi_len 12) from xs_len hG hΓ dJ11_equals_11) ha5 e1 ?_
    refine xw_ic (show xm_Imp g Γ 12 (xi_ic (fun x y => y ≤ x) 32 15) from xs_icmp_ge hΓ dJ11_equals_12 (by decide)) (fun c => ?_) (fun c => ?_)
    · rw [if_pos c] at e
      obtain ⟨_, e, hp⟩ := xl_o_s e (hP1 _ hp)
      refine xw_psh (v := (.int (1))) (show xm_Imp g Γ 32 (xi_psh (.int (1)) 33) from xs_iconst hΓ dJ11_equals_32 (by decide)) ?_
      have hq := hP0 _ (xl_fin e hp)
      exact xw_iret (show xm_Imp g Γ 33 (xi_iret .boolean _) from xs_ireturn hΓ rfl dJ11_equals_33) rfl hq
    · rw [if_neg c] at e
      refine xw_aldo (x := l0) (show xm_Imp g Γ 15 (xi_ald 0 16) from xs_aload_n hΓ dJ11_equals_15) rfl ?_
      refine xw_ild (show xm_Imp g Γ 16 (xi_ild 2 17) from xs_iload_n hΓ dJ11_equals_16) rfl ?_
      obtain ⟨v7, e1, e⟩ := xo_b_s e
      refine xw_hbal (o := l0) (show xm_Imp g Γ 17 (xi_bal 18) from xs_bal hG hΓ dJ11_equals_17) ha5 e1 ?_
      refine xw_aldo (x := l1) (show xm_Imp g Γ 18 (xi_ald 1 19) from xs_aload_n hΓ dJ11_equals_18) rfl ?_
      refine xw_ild (show xm_Imp g Γ 19 (xi_ild 2 20) from xs_iload_n hΓ dJ11_equals_19) rfl ?_
      obtain ⟨a8, ha8, e⟩ := xo_b_s e
      obtain ⟨v9, e1, e⟩ := xo_b_s e
      refine xw_hbal (o := l1) (show xm_Imp g Γ 20 (xi_bal 21) from xs_bal hG hΓ dJ11_equals_20) ha8 e1 ?_
      refine xw_ic (show xm_Imp g Γ 21 (xi_ic (fun x y => x = y) 26 24) from xs_icmp_eq hΓ dJ11_equals_21 (by decide)) (fun c => ?_) (fun c => ?_)
      · rw [if_pos c] at e
        refine xw_inc (v := (1)) (ls' := [some (va_rf l0), some (va_rf l1), some (.int (s + 1))]) (show xm_Imp g Γ 26 (xi_inc 2 (1) 29) from xs_iinc hΓ dJ11_equals_26 (by decide) (Nat.le_of_ble_eq_true rfl)) rfl ((xm_s1_o (o := l1) rfl).trans rfl) ?_
        refine xw_goto (show xm_Imp g Γ 29 (xi_goto 9) from xs_goto hΓ dJ11_equals_29 (by decide)) ?_
        have hq := xl_P_inl (hP1 _ (xl_fin e hp)); exact hq
      · rw [if_neg c] at e
        obtain ⟨_, e, hp⟩ := xl_o_s e (hP1 _ hp)
        refine xw_psh (v := (.int (0))) (show xm_Imp g Γ 24 (xi_psh (.int (0)) 25) from xs_iconst hΓ dJ11_equals_24 (by decide)) ?_
        have hq := hP0 _ (xl_fin e hp)
        exact xw_iret (show xm_Imp g Γ 25 (xi_iret .boolean _) from xs_ireturn hΓ rfl dJ11_equals_25) rfl hq
  unfold F_J11_equals at e
  refine xw_aldo (x := p0) (show xm_Imp g Γ 0 (xi_ald 0 1) from xs_aload_n hΓ dJ11_equals_0) rfl ?_
  obtain ⟨a1, ha1, e⟩ := xo_b_s e
  obtain ⟨v2, e1, e⟩ := xo_b_s e
  refine xw_hlen (o := p0) (show xm_Imp g Γ 1 (xi_len 2) from xs_len hG hΓ dJ11_equals_1) ha1 e1 ?_
  refine xw_aldo (x := p1) (show xm_Imp g Γ 2 (xi_ald 1 3) from xs_aload_n hΓ dJ11_equals_2) rfl ?_
  obtain ⟨a3, ha3, e⟩ := xo_b_s e
  obtain ⟨v4, e1, e⟩ := xo_b_s e
  refine xw_hlen (o := p1) (show xm_Imp g Γ 3 (xi_len 4) from xs_len hG hΓ dJ11_equals_3) ha3 e1 ?_
  refine xw_ic (show xm_Imp g Γ 4 (xi_ic (fun x y => x = y) 7 34) from xs_icmp_ne hΓ dJ11_equals_4 (by decide)) (fun c => ?_) (fun c => ?_)
  · rw [if_pos c] at e
    refine xw_psh (v := (.int (0))) (show xm_Imp g Γ 7 (xi_psh (.int (0)) 8) from xs_iconst hΓ dJ11_equals_7 (by decide)) ?_
    refine xw_ist (ls' := [some (va_rf p0), some (va_rf p1), some (.int 0)]) (show xm_Imp g Γ 8 (xi_ist 2 9) from xs_istore_n hΓ dJ11_equals_8 (Nat.le_of_ble_eq_true rfl)) ((xm_s1_o (o := p1) rfl).trans rfl) ?_
    exact hL_9 _ _ _ _ e hp
  · rw [if_neg c] at e
    refine xw_psh (v := (.int (0))) (show xm_Imp g Γ 34 (xi_psh (.int (0)) 35) from xs_iconst hΓ dJ11_equals_34 (by decide)) ?_
    have hq := hP0 _ (xl_fin e hp)
    exact xw_iret (show xm_Imp g Γ 35 (xi_iret .boolean _) from xs_ireturn hΓ rfl dJ11_equals_35) rfl hq
noncomputable def B_J6_equals_54 (g : xm_G) (h : xm_H) : Option (Int32) :=
 some 0
noncomputable def B_J6_equals_36 (g : xm_G) (l0 : Nat) (l2 : Option Nat) (h : xm_H) : Option (Int32) :=
 xo_b (xh_fr [(15, 0)] h l0) (fun v2 =>
 xo_b l2 (fun a3 =>
 xo_b (xh_fr [(15, 0)] h a3) (fun v4 =>
 xo_b (F_J11_equals g v2 v4 h) (fun v5 =>
 (if v5 = 0 then
 B_J6_equals_54 g h else
 some 1)))))
noncomputable def F_J6_equals (g : xm_G) (p0 : Nat) (p1 : Option Nat) (h : xm_H) : Option (Int32) :=
 (if (some p0) = p1 then
 some 1 else
 xo_b (xh_inst "java/lang/String" h p1) (fun v1 =>
 (if v1 = 0 then
 B_J6_equals_54 g h else
 xo_b (xh_cast "java/lang/String" h p1) (fun _ =>
 (if (1 : Int32) = 0 then
 B_J6_equals_36 g p0 p1 h else
 xo_b (xh_fi [(15, 1)] h p0) (fun v6 =>
 xo_b p1 (fun a7 =>
 xo_b (xh_fi [(15, 1)] h a7) (fun v8 =>
 (if v6 = v8 then
 B_J6_equals_36 g p0 p1 h else
 B_J6_equals_54 g h)))))))))
set_option maxHeartbeats 4000000 in
theorem K_J6_equals {g : xm_G} (hG : xm_Gw g) (p0 : Nat) (p1 : Option Nat) (h : xm_H) {o : Int32} (e : F_J6_equals g p0 p1 h = some o) {Q : xm_P} {X : xm_X} (hQ : Q (some (.int o)) h) : xm_Run g M_J6_equals 2 [.ref p0, va_rf p1] h 0 0 Q X := by
  refine xm_Run.of2 (ls := [some (.ref p0), some (va_rf p1), none]) pn_java_lang_String (by cases p1 <;> exact Nat.le_of_ble_eq_true rfl) (by cases p1 <;> rfl) (fun Γ hΓ => ?_)
  obtain ⟨P0, hP0, hp⟩ : ∃ P : Int32 → Prop, (∀ o, P o → Q (some (.int o)) h) ∧ P o := ⟨fun o => Q (some (.int o)) h, fun _ h => h, hQ⟩
  clear hQ
  show xm_W g Γ 0 [some (.ref p0), some (va_rf p1), none] [] h 0 0
  have hB_54 : ∀  (o : Int32), B_J6_equals_54 g h = some o → P0 o → xm_W g Γ 54 [none, none, none] [] h 0 0 := by
    intro  o e hp
    unfold B_J6_equals_54 at e
    refine xw_psh (v := (.int (0))) (show xm_Imp g Γ 54 (xi_psh (.int (0)) 55) from xs_iconst hΓ dJ6_equals_54 (by decide)) ?_
    have hq := hP0 _ (xl_fin e hp)
    exact xw_iret (show xm_Imp g Γ 55 (xi_iret .boolean _) from xs_ireturn hΓ rfl dJ6_equals_55) rfl hq
  have hB_36 : ∀ (l0 : Nat) (l2 : Option Nat) (o : Int32), B_J6_equals_36 g l0 l2 h = some o → P0 o → xm_W g Γ 36 [some (.ref l0), none, some (va_rf l2)] [] h 0 0 := by
    intro l0 l2 o e hp
    unfold B_J6_equals_36 at e
    refine xw_ald (show xm_Imp g Γ 36 (xi_ald 0 37) from xs_aload_n hΓ dJ6_equals_36) rfl ?_
    obtain ⟨v2, e1, e⟩ := xo_b_s e
    refine xw_gr1 (o := (some l0)) (show xm_Imp g Γ 37 (xi_get 15 0 40) from xs_get hG hΓ (ci := 15) (kf := 0) rfl (Nat.le_of_ble_eq_true rfl) q709 dJ6_equals_37) rfl e1 ?_
    refine xw_aldo (x := l2) (show xm_Imp g Γ 40 (xi_ald 2 41) from xs_aload_n hΓ dJ6_equals_40) rfl ?_
    obtain ⟨a3, ha3, e⟩ := xo_b_s e
    obtain ⟨v4, e1, e⟩ := xo_b_s e
    refine xw_gr1 (o := l2) (show xm_Imp g Γ 41 (xi_get 15 0 44) from xs_get hG hΓ (ci := 15) (kf := 0) rfl (Nat.le_of_ble_eq_true rfl) q709 dJ6_equals_41) ha3 e1 ?_
    obtain ⟨v5, e1, e⟩ := xo_b_s e
    refine xw_sv2 (show xm_Imp g Γ 44 (xi_inv g M_J11_equals 1 2 47) from xs_invS hG hΓ k_J11_equals rfl q771 q772 dJ6_equals_44) rfl (fun Q X hQ => K_J11_equals hG v2 v4 _ e1 hQ) ?_
    refine xw_if (show xm_Imp g Γ 47 (xi_if (fun x => x = 0) 54 50) from xs_if_eq hΓ dJ6_equals_47 (by decide)) (fun c => ?_) (fun c => ?_)
    · rw [if_pos c] at e
      exact xm_lx (hB_54 _ e hp) (trivial)
    · rw [if_neg c] at e
      refine xw_psh (v := (.int (1))) (show xm_Imp g Γ 50 (xi_psh (.int (1)) 51) from xs_iconst hΓ dJ6_equals_50 (by decide)) ?_
      refine xw_goto (show xm_Imp g Γ 51 (xi_goto 55) from xs_goto hΓ dJ6_equals_51 (by decide)) ?_
      have hq := hP0 _ (xl_fin e hp)
      exact xw_iret (show xm_Imp g Γ 55 (xi_iret .boolean _) from xs_ireturn hΓ rfl dJ6_equals_55) rfl hq
  unfold F_J6_equals at e
  refine xw_ald (show xm_Imp g Γ 0 (xi_ald 0 1) from xs_aload_n hΓ dJ6_equals_0) rfl ?_
  refine xw_aldo (x := p1) (show xm_Imp g Γ 1 (xi_ald 1 2) from xs_aload_n hΓ dJ6_equals_1) rfl ?_
  refine xw_acm (o := (some p0)) (o2 := p1) (show xm_Imp g Γ 2 (xi_acm 5 7) from xs_acmp_ne hΓ dJ6_equals_2 (by decide)) (fun c => ?_) (fun c => ?_)
  · rw [if_pos c] at e
    refine xw_psh (v := (.int (1))) (show xm_Imp g Γ 5 (xi_psh (.int (1)) 6) from xs_iconst hΓ dJ6_equals_5 (by decide)) ?_
    have hq := hP0 _ (xl_fin e hp)
    exact xw_iret (show xm_Imp g Γ 6 (xi_iret .boolean _) from xs_ireturn hΓ rfl dJ6_equals_6) rfl hq
  · rw [if_neg c] at e
    refine xw_aldo (x := p1) (show xm_Imp g Γ 7 (xi_ald 1 8) from xs_aload_n hΓ dJ6_equals_7) rfl ?_
    obtain ⟨v1, e1, e⟩ := xo_b_s e
    refine xw_inst (o := p1) (show xm_Imp g Γ 8 (xi_inst "java/lang/String" 11) from xs_inst hG hΓ q770 dJ6_equals_8) e1 ?_
    refine xw_if (show xm_Imp g Γ 11 (xi_if (fun x => x = 0) 54 14) from xs_if_eq hΓ dJ6_equals_11 (by decide)) (fun c => ?_) (fun c => ?_)
    · rw [if_pos c] at e
      exact xm_lx (hB_54 _ e hp) (trivial)
    · rw [if_neg c] at e
      refine xw_aldo (x := p1) (show xm_Imp g Γ 14 (xi_ald 1 15) from xs_aload_n hΓ dJ6_equals_14) rfl ?_
      obtain ⟨_, e1, e⟩ := xo_b_s e
      refine xw_cast (o := p1) (show xm_Imp g Γ 15 (xi_cast "java/lang/String" 18) from xs_cast hG hΓ (xm_in 15 rfl) q770 dJ6_equals_15) e1 ?_
      refine xw_asto (x := p1) (ls' := [some (.ref p0), some (va_rf p1), some (va_rf p1)]) (show xm_Imp g Γ 18 (xi_ast 2 19) from xs_astore_n hΓ dJ6_equals_18 (Nat.le_of_ble_eq_true rfl)) ((xm_s1_o (o := p1) rfl).trans rfl) ?_
      refine xw_psh (v := (.int 1)) (show xm_Imp g Γ 19 (xi_psh (.int 1) 22) from xs_gst hG hΓ (st_COMPACT_STRINGS hG) q320 (lw_all_tbl q130) rfl q654 dJ6_equals_19) ?_
      refine xw_if (show xm_Imp g Γ 22 (xi_if (fun x => x = 0) 36 25) from xs_if_eq hΓ dJ6_equals_22 (by decide)) (fun c => ?_) (fun c => ?_)
      · rw [if_pos c] at e
        exact xm_lx (hB_36 _ _ _ e hp) (And.intro rfl (And.intro rfl (trivial)))
      · rw [if_neg c] at e
        refine xw_ald (show xm_Imp g Γ 25 (xi_ald 0 26) from xs_aload_n hΓ dJ6_equals_25) rfl ?_
        obtain ⟨v6, e1, e⟩ := xo_b_s e
        refine xw_gi1 (o := (some p0)) (show xm_Imp g Γ 26 (xi_get 15 1 29) from xs_get hG hΓ (ci := 15) (kf := 1) rfl (Nat.le_of_ble_eq_true rfl) q710 dJ6_equals_26) rfl e1 ?_
        refine xw_aldo (x := p1) (show xm_Imp g Γ 29 (xi_ald 2 30) from xs_aload_n hΓ dJ6_equals_29) rfl ?_
        obtain ⟨a7, ha7, e⟩ := xo_b_s e
        obtain ⟨v8, e1, e⟩ := xo_b_s e
        refine xw_gi1 (o := p1) (show xm_Imp g Γ 30 (xi_get 15 1 33) from xs_get hG hΓ (ci := 15) (kf := 1) rfl (Nat.le_of_ble_eq_true rfl) q710 dJ6_equals_30) ha7 e1 ?_
        refine xw_ic (show xm_Imp g Γ 33 (xi_ic (fun x y => x = y) 36 54) from xs_icmp_ne hΓ dJ6_equals_33 (by decide)) (fun c => ?_) (fun c => ?_)
        · rw [if_pos c] at e
          exact xm_lx (hB_36 _ _ _ e hp) (And.intro rfl (And.intro rfl (trivial)))
        · rw [if_neg c] at e
          exact xm_lx (hB_54 _ e hp) (trivial)
noncomputable def B_X6_accept_24 (g : xm_G) (l0 : Nat) (s0 : Int32) (h : xm_H) (bc : Nat) (bs : Nat) (Q : Int32 → xm_H → Prop) : Prop :=
 (if s0 = 0 then
 xt_b (xb_chk .boolean s0) (fun _ =>
 Q s0 h) else
 xt_b (xh_is 5 h l0) (fun _ =>
 xt_c bc bs (fun m5 m6 => F_X6_advance g l0 h m5 m6 (fun h7 =>
 xt_b (xb_chk .boolean s0) (fun _ =>
 Q s0 h7)))))
noncomputable def B_X6_accept_23 (g : xm_G) (l0 : Nat) (h : xm_H) (bc : Nat) (bs : Nat) (Q : Int32 → xm_H → Prop) : Prop :=
 B_X6_accept_24 g l0 0 h bc bs Q
noncomputable def F_X6_accept (g : xm_G) (p0 : Nat) (p1 : Option Nat) (h : xm_H) (bc : Nat) (bs : Nat) (Q : Int32 → xm_H → Prop) : Prop :=
 xt_b (xh_fi [(5, 3)] h p0) (fun v1 =>
 (if v1 = (1 : Int32) then
 xt_b (xh_fr [(5, 9)] h p0) (fun v2 =>
 xt_b v2 (fun a3 =>
 xt_b (xh_is 15 h a3) (fun _ =>
 xt_b (F_J6_equals g a3 p1 h) (fun v4 =>
 B_X6_accept_24 g p0 (if v4 = 0 then 0 else 1) h bc bs Q)))) else
 B_X6_accept_23 g p0 h bc bs Q))
set_option maxHeartbeats 4000000 in
theorem K_X6_accept {g : xm_G} (hG : xm_Gw g) (p0 : Nat) (p1 : Option Nat) (h : xm_H) (bc : Nat) (bs : Nat) {Q : Int32 → xm_H → Prop} (e : F_X6_accept g p0 p1 h bc bs Q) : xm_Run g M_X6_accept 21 [.ref p0, va_rf p1] h bc bs (fun v h' => ∃ r, v = some (.int r) ∧ Q r h') xm_no := by
  refine xm_Run.of2 (ls := [some (.ref p0), some (va_rf p1), none]) pn_StringTableau_Parser (by cases p1 <;> exact Nat.le_of_ble_eq_true rfl) (by cases p1 <;> rfl) (fun Γ hΓ => ?_)
  show xm_W g Γ 0 [some (.ref p0), some (va_rf p1), none] [] h bc bs
  have hB_24 : ∀ (l0 : Nat) (s0 : Int32) (h : xm_H) (bc : Nat) (bs : Nat), B_X6_accept_24 g l0 s0 h bc bs Q → xm_W g Γ 24 [some (.ref l0), none, none] [.int s0] h bc bs := by
    intro l0 s0 h bc bs e
    unfold B_X6_accept_24 at e
    refine xw_ist (ls' := [some (.ref l0), none, some (.int s0)]) (show xm_Imp g Γ 24 (xi_ist 2 25) from xs_istore_n hΓ dX6_accept_24 (Nat.le_of_ble_eq_true rfl)) rfl ?_
    refine xw_ild (show xm_Imp g Γ 25 (xi_ild 2 26) from xs_iload_n hΓ dX6_accept_25) rfl ?_
    refine xw_if (show xm_Imp g Γ 26 (xi_if (fun x => x = 0) 33 29) from xs_if_eq hΓ dX6_accept_26 (by decide)) (fun c => ?_) (fun c => ?_)
    · rw [if_pos c] at e
      refine xw_ild (show xm_Imp g Γ 33 (xi_ild 2 34) from xs_iload_n hΓ dX6_accept_33) rfl ?_
      obtain ⟨_, e1, e⟩ := e
      exact xw_iret (show xm_Imp g Γ 34 (xi_iret .boolean _) from xs_ireturn hΓ rfl dX6_accept_34) (xb_of e1) ⟨_, rfl, e⟩
    · rw [if_neg c] at e
      refine xw_ald (show xm_Imp g Γ 29 (xi_ald 0 30) from xs_aload_n hΓ dX6_accept_29) rfl ?_
      obtain ⟨_, e0, e⟩ := e
      obtain ⟨m5, m6, ⟨em1, em2⟩, e⟩ := e
      refine xw_tvu0 (o := (some l0)) (show xm_Imp g Γ 30 (xi_vir g 5 M_X6_advance 20 0 33) from xs_invV hG hΓ k_X6_advance rfl (ci := 5) rfl q404 q406 qs1 dX6_accept_30) rfl rfl e0 em1 em2 (K_X6_advance hG l0 _ _ _ e) (fun h7 e => ?_)
      refine xw_ild (show xm_Imp g Γ 33 (xi_ild 2 34) from xs_iload_n hΓ dX6_accept_33) rfl ?_
      obtain ⟨_, e1, e⟩ := e
      exact xw_iret (show xm_Imp g Γ 34 (xi_iret .boolean _) from xs_ireturn hΓ rfl dX6_accept_34) (xb_of e1) ⟨_, rfl, e⟩
  have hB_23 : ∀ (l0 : Nat) (h : xm_H) (bc : Nat) (bs : Nat), B_X6_accept_23 g l0 h bc bs Q → xm_W g Γ 23 [some (.ref l0), none, none] [] h bc bs := by
    intro l0 h bc bs e
    unfold B_X6_accept_23 at e
    refine xw_psh (v := (.int (0))) (show xm_Imp g Γ 23 (xi_psh (.int (0)) 24) from xs_iconst hΓ dX6_accept_23 (by decide)) ?_
    exact hB_24 _ _ _ _ _ e
  unfold F_X6_accept at e
  refine xw_ald (show xm_Imp g Γ 0 (xi_ald 0 1) from xs_aload_n hΓ dX6_accept_0) rfl ?_
  obtain ⟨v1, e1, e⟩ := e
  refine xw_gi1 (o := (some p0)) (show xm_Imp g Γ 1 (xi_get 5 3 4) from xs_get hG hΓ (ci := 5) (kf := 3) rfl (Nat.le_of_ble_eq_true rfl) q726 dX6_accept_1) rfl e1 ?_
  refine xw_psh (v := (.int (1))) (show xm_Imp g Γ 4 (xi_psh (.int (1)) 5) from xs_iconst hΓ dX6_accept_4 (by decide)) ?_
  refine xw_ic (show xm_Imp g Γ 5 (xi_ic (fun x y => x = y) 8 23) from xs_icmp_ne hΓ dX6_accept_5 (by decide)) (fun c => ?_) (fun c => ?_)
  · rw [if_pos c] at e
    refine xw_ald (show xm_Imp g Γ 8 (xi_ald 0 9) from xs_aload_n hΓ dX6_accept_8) rfl ?_
    obtain ⟨v2, e1, e⟩ := e
    refine xw_gr1 (o := (some p0)) (show xm_Imp g Γ 9 (xi_get 5 9 12) from xs_get hG hΓ (ci := 5) (kf := 9) rfl (Nat.le_of_ble_eq_true rfl) q732 dX6_accept_9) rfl e1 ?_
    refine xw_aldo (x := p1) (show xm_Imp g Γ 12 (xi_ald 1 13) from xs_aload_n hΓ dX6_accept_12) rfl ?_
    obtain ⟨a3, ha3, e⟩ := e
    obtain ⟨_, e0, e⟩ := e
    obtain ⟨v4, e1, e⟩ := e
    refine xw_hv1 (o := v2) (show xm_Imp g Γ 13 (xi_vir g 15 M_J6_equals 2 1 16) from xs_invV hG hΓ k_J6_equals rfl (ci := 15) rfl q766 q767 q768 dX6_accept_13) (by simp [xm_stk, xv_cat, xc_int, xc_long, xc_float, xc_double, xc_ref]) ha3 e0 (fun Q X hQ => K_J6_equals hG a3 p1 _ e1 hQ) ?_
    refine xw_if (show xm_Imp g Γ 16 (xi_if (fun x => x = 0) 23 19) from xs_if_eq hΓ dX6_accept_16 (by decide)) (fun c => ?_) (fun c => ?_)
    · rw [if_pos c] at e
      refine xw_psh (v := (.int (0))) (show xm_Imp g Γ 23 (xi_psh (.int (0)) 24) from xs_iconst hΓ dX6_accept_23 (by decide)) ?_
      exact xm_lx (hB_24 _ _ _ _ _ e) (And.intro rfl (trivial))
    · rw [if_neg c] at e
      refine xw_psh (v := (.int (1))) (show xm_Imp g Γ 19 (xi_psh (.int (1)) 20) from xs_iconst hΓ dX6_accept_19 (by decide)) ?_
      refine xw_goto (show xm_Imp g Γ 20 (xi_goto 24) from xs_goto hΓ dX6_accept_20 (by decide)) ?_
      exact xm_lx (hB_24 _ _ _ _ _ e) (And.intro rfl (trivial))
  · rw [if_neg c] at e
    exact xm_lx (hB_23 _ _ _ _ e) (And.intro rfl (trivial))
noncomputable def F_J13_init_3 (g : xm_G) (p0 : Nat) (p1 : Option Nat) (p2 : Option Nat) (p3 : Int32) (p4 : Int32) (h : xm_H) : Option (xm_H) :=
 xo_b (xh_w [(6, 0)] h p0 (.ref p0)) (fun h1 =>
 xo_b (xh_w [(6, 1)] h1 p0 (va_rf (xm_sto g "java/lang/Throwable" "UNASSIGNED_STACK" "[Ljava/lang/StackTraceElement;"))) (fun h2 =>
 xo_b (xh_w [(6, 2)] h2 p0 (va_rf (xm_sto g "java/lang/Throwable" "SUPPRESSED_SENTINEL" "Ljava/util/List;"))) (fun h3 =>
 (if p4 = 0 then
 xo_b (xh_w [(6, 1)] h3 p0 (va_rf none)) (fun h4 =>
 xo_b (xh_w [(6, 3)] h4 p0 (va_rf p1)) (fun h5 =>
 xo_b (xh_w [(6, 0)] h5 p0 (va_rf p2)) (fun h6 =>
 (if p3 = 0 then
 xo_b (xh_w [(6, 2)] h6 p0 (va_rf none)) (fun h7 =>
 some h7) else
 some h6)))) else
 none))))
set_option maxHeartbeats 4000000 in
theorem K_J13_init_3 {g : xm_G} (hG : xm_Gw g) (p0 : Nat) (p1 : Option Nat) (p2 : Option Nat) (p3 : Int32) (p4 : Int32) (h : xm_H) {o : xm_H} (e : F_J13_init_3 g p0 p1 p2 p3 p4 h = some o) {Q : xm_P} {X : xm_X} (hQ : Q none o) : xm_Run g M_J13_init_3 2 [.ref p0, va_rf p1, va_rf p2, .int p3, .int p4] h 0 0 Q X := by
  refine xm_Run.of2 (ls := [some (.ref p0), some (va_rf p1), some (va_rf p2), some (.int p3), some (.int p4)]) pn_java_lang_Throwable (by cases p1 <;> cases p2 <;> exact Nat.le_of_ble_eq_true rfl) (by cases p1 <;> cases p2 <;> rfl) (fun Γ hΓ => ?_)
  obtain ⟨P0, hP0, hp⟩ : ∃ P : xm_H → Prop, (∀ o, P o → Q none o) ∧ P o := ⟨fun o => Q none o, fun _ h => h, hQ⟩
  clear hQ
  show xm_W g Γ 0 [some (.ref p0), some (va_rf p1), some (va_rf p2), some (.int p3), some (.int p4)] [] h 0 0
  unfold F_J13_init_3 at e
  refine xw_ald (show xm_Imp g Γ 0 (xi_ald 0 1) from xs_aload_n hΓ dJ13_init_3_0) rfl ?_
  refine xw_obj (o := some p0) (show xm_Imp g Γ 1 (xi_obj 4) from xs_obj hG hΓ rfl q575 dJ13_init_3_1) rfl rfl ?_
  refine xw_ald (show xm_Imp g Γ 4 (xi_ald 0 5) from xs_aload_n hΓ dJ13_init_3_4) rfl ?_
  refine xw_ald (show xm_Imp g Γ 5 (xi_ald 0 6) from xs_aload_n hΓ dJ13_init_3_5) rfl ?_
  obtain ⟨h1, e1, e⟩ := xo_b_s e
  refine xw_pt1 (o := (some p0)) (show xm_Imp g Γ 6 (xi_put 6 0 (.object "java/lang/Throwable") 9) from xs_put hG hΓ (ci := 6) (kf := 0) rfl (Nat.le_of_ble_eq_true rfl) rfl (by decide +kernel) q685 dJ13_init_3_6) rfl (xv_fit (Or.inl ⟨_, rfl⟩) (some p0)) e1 ?_
  refine xw_ald (show xm_Imp g Γ 9 (xi_ald 0 10) from xs_aload_n hΓ dJ13_init_3_9) rfl ?_
  refine xw_psho (o := xm_sto g "java/lang/Throwable" "UNASSIGNED_STACK" "[Ljava/lang/StackTraceElement;") (show xm_Imp g Γ 10 (xi_psh (xm_stv g "java/lang/Throwable" "UNASSIGNED_STACK" "[Ljava/lang/StackTraceElement;") 13) from xs_gst hG hΓ (st_UNASSIGNED_STACK hG) q577 (lw_all_tbl q140) rfl q576 dJ13_init_3_10) (so_UNASSIGNED_STACK hG) ?_
  obtain ⟨h2, e1, e⟩ := xo_b_s e
  refine xw_pt1 (o := (some p0)) (show xm_Imp g Γ 13 (xi_put 6 1 (.array (.object "java/lang/StackTraceElement")) 16) from xs_put hG hΓ (ci := 6) (kf := 1) rfl (Nat.le_of_ble_eq_true rfl) rfl (by decide +kernel) q686 dJ13_init_3_13) rfl (xv_fit (Or.inr ⟨_, rfl⟩) (xm_sto g "java/lang/Throwable" "UNASSIGNED_STACK" "[Ljava/lang/StackTraceElement;")) e1 ?_
  refine xw_ald (show xm_Imp g Γ 16 (xi_ald 0 17) from xs_aload_n hΓ dJ13_init_3_16) rfl ?_
  refine xw_psho (o := xm_sto g "java/lang/Throwable" "SUPPRESSED_SENTINEL" "Ljava/util/List;") (show xm_Imp g Γ 17 (xi_psh (xm_stv g "java/lang/Throwable" "SUPPRESSED_SENTINEL" "Ljava/util/List;") 20) from xs_gst hG hΓ (st_SUPPRESSED_SENTINEL hG) q579 (lw_all_tbl q140) rfl q578 dJ13_init_3_17) (so_SUPPRESSED_SENTINEL hG) ?_
  obtain ⟨h3, e1, e⟩ := xo_b_s e
  refine xw_pt1 (o := (some p0)) (show xm_Imp g Γ 20 (xi_put 6 2 (.object "java/util/List") 23) from xs_put hG hΓ (ci := 6) (kf := 2) rfl (Nat.le_of_ble_eq_true rfl) rfl (by decide +kernel) q687 dJ13_init_3_20) rfl (xv_fit (Or.inl ⟨_, rfl⟩) (xm_sto g "java/lang/Throwable" "SUPPRESSED_SENTINEL" "Ljava/util/List;")) e1 ?_
  refine xw_ild (show xm_Imp g Γ 23 (xi_ild 4 25) from xs_iload hΓ dJ13_init_3_23) rfl ?_
  refine xw_if (show xm_Imp g Γ 25 (xi_if (fun x => x = 0) 36 28) from xs_if_eq hΓ dJ13_init_3_25 (by decide)) (fun c => ?_) (fun c => ?_)
  · rw [if_pos c] at e
    refine xw_ald (show xm_Imp g Γ 36 (xi_ald 0 37) from xs_aload_n hΓ dJ13_init_3_36) rfl ?_
    refine xw_psh (v := .null) (show xm_Imp g Γ 37 (xi_psh .null 38) from xs_null hΓ dJ13_init_3_37) ?_
    obtain ⟨h4, e1, e⟩ := xo_b_s e
    refine xw_pt1 (o := (some p0)) (show xm_Imp g Γ 38 (xi_put 6 1 (.array (.object "java/lang/StackTraceElement")) 41) from xs_put hG hΓ (ci := 6) (kf := 1) rfl (Nat.le_of_ble_eq_true rfl) rfl (by decide +kernel) q686 dJ13_init_3_38) rfl (xv_fit (Or.inr ⟨_, rfl⟩) none) e1 ?_
    refine xw_ald (show xm_Imp g Γ 41 (xi_ald 0 42) from xs_aload_n hΓ dJ13_init_3_41) rfl ?_
    refine xw_aldo (x := p1) (show xm_Imp g Γ 42 (xi_ald 1 43) from xs_aload_n hΓ dJ13_init_3_42) rfl ?_
    obtain ⟨h5, e1, e⟩ := xo_b_s e
    refine xw_pt1 (o := (some p0)) (show xm_Imp g Γ 43 (xi_put 6 3 (.object "java/lang/String") 46) from xs_put hG hΓ (ci := 6) (kf := 3) rfl (Nat.le_of_ble_eq_true rfl) rfl (by decide +kernel) q684 dJ13_init_3_43) rfl (xv_fit (Or.inl ⟨_, rfl⟩) p1) e1 ?_
    refine xw_ald (show xm_Imp g Γ 46 (xi_ald 0 47) from xs_aload_n hΓ dJ13_init_3_46) rfl ?_
    refine xw_aldo (x := p2) (show xm_Imp g Γ 47 (xi_ald 2 48) from xs_aload_n hΓ dJ13_init_3_47) rfl ?_
    obtain ⟨h6, e1, e⟩ := xo_b_s e
    refine xw_pt1 (o := (some p0)) (show xm_Imp g Γ 48 (xi_put 6 0 (.object "java/lang/Throwable") 51) from xs_put hG hΓ (ci := 6) (kf := 0) rfl (Nat.le_of_ble_eq_true rfl) rfl (by decide +kernel) q685 dJ13_init_3_48) rfl (xv_fit (Or.inl ⟨_, rfl⟩) p2) e1 ?_
    refine xw_ild (show xm_Imp g Γ 51 (xi_ild 3 52) from xs_iload_n hΓ dJ13_init_3_51) rfl ?_
    refine xw_if (show xm_Imp g Γ 52 (xi_if (fun x => x = 0) 55 60) from xs_if_ne hΓ dJ13_init_3_52 (by decide)) (fun c => ?_) (fun c => ?_)
    · rw [if_pos c] at e
      refine xw_ald (show xm_Imp g Γ 55 (xi_ald 0 56) from xs_aload_n hΓ dJ13_init_3_55) rfl ?_
      refine xw_psh (v := .null) (show xm_Imp g Γ 56 (xi_psh .null 57) from xs_null hΓ dJ13_init_3_56) ?_
      obtain ⟨h7, e1, e⟩ := xo_b_s e
      refine xw_pt1 (o := (some p0)) (show xm_Imp g Γ 57 (xi_put 6 2 (.object "java/util/List") 60) from xs_put hG hΓ (ci := 6) (kf := 2) rfl (Nat.le_of_ble_eq_true rfl) rfl (by decide +kernel) q687 dJ13_init_3_57) rfl (xv_fit (Or.inl ⟨_, rfl⟩) none) e1 ?_
      exact xw_vret (show xm_Imp g Γ 60 (xi_vret _) from xs_return hΓ rfl dJ13_init_3_60) (hP0 _ (xl_fin e hp))
    · rw [if_neg c] at e
      exact xw_vret (show xm_Imp g Γ 60 (xi_vret _) from xs_return hΓ rfl dJ13_init_3_60) (hP0 _ (xl_fin e hp))
  · rw [if_neg c] at e
    refine xw_ald (show xm_Imp g Γ 28 (xi_ald 0 29) from xs_aload_n hΓ dJ13_init_3_28) rfl ?_
    cases e
