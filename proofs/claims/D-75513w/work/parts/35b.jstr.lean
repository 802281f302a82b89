/-! STRINGS: methods as functions (printed by gen/mkhfun.py) -/
set_option maxRecDepth 100000
noncomputable def F_J6_coder (g : xm_G) (p0 : Nat) (h : xm_H) : Option (Int32) :=
 (if (1 : Int32) = 0 then
 some 1 else
 xo_b (xh_fi [(15, 1)] h p0) (fun v1 =>
 xo_b (xb_chk .byte v1) (fun _ =>
 some v1)))
set_option maxHeartbeats 4000000 in
theorem K_J6_coder {g : xm_G} (hG : xm_Gw g) (p0 : Nat) (h : xm_H) {o : Int32} (e : F_J6_coder g p0 h = some o) {Q : xm_P} {X : xm_X} (hQ : Q (some (.int o)) h) : xm_Run g M_J6_coder 1 [.ref p0] h 0 0 Q X := by
  refine xm_Run.of pn_java_lang_String (Nat.le_of_ble_eq_true rfl) (fun Γ hΓ => ?_)
  obtain ⟨P0, hP0, hp⟩ : ∃ P : Int32 → Prop, (∀ o, P o → Q (some (.int o)) h) ∧ P o := ⟨fun o => Q (some (.int o)) h, fun _ h => h, hQ⟩
  clear hQ
  show xm_W g Γ 0 [some (.ref p0)] [] h 0 0
  unfold F_J6_coder at e
  refine xw_psh (v := (.int 1)) (show xm_Imp g Γ 0 (xi_psh (.int 1) 3) from xs_gst hG hΓ (st_COMPACT_STRINGS hG) q320 (lw_all_tbl q130) rfl q654 dJ6_coder_0) ?_
  refine xw_if (show xm_Imp g Γ 3 (xi_if (fun x => x = 0) 13 6) from xs_if_eq hΓ dJ6_coder_3 (by decide)) (fun c => ?_) (fun c => ?_)
  · rw [if_pos c] at e
    refine xw_psh (v := (.int (1))) (show xm_Imp g Γ 13 (xi_psh (.int (1)) 14) from xs_iconst hΓ dJ6_coder_13 (by decide)) ?_
    have hq := hP0 _ (xl_fin e hp)
    exact xw_iret (show xm_Imp g Γ 14 (xi_iret .byte _) from xs_ireturn hΓ rfl dJ6_coder_14) rfl hq
  · rw [if_neg c] at e
    refine xw_ald (show xm_Imp g Γ 6 (xi_ald 0 7) from xs_aload_n hΓ dJ6_coder_6) rfl ?_
    obtain ⟨v1, e1, e⟩ := xo_b_s e
    refine xw_gi1 (o := (some p0)) (show xm_Imp g Γ 7 (xi_get 15 1 10) from xs_get hG hΓ (ci := 15) (kf := 1) rfl (Nat.le_of_ble_eq_true rfl) q710 dJ6_coder_7) rfl e1 ?_
    refine xw_goto (show xm_Imp g Γ 10 (xi_goto 14) from xs_goto hΓ dJ6_coder_10 (by decide)) ?_
    obtain ⟨_, e1, e⟩ := xo_b_s e
    have hq := hP0 _ (xl_fin e hp)
    exact xw_iret (show xm_Imp g Γ 14 (xi_iret .byte _) from xs_ireturn hΓ rfl dJ6_coder_14) (xb_of e1) hq
noncomputable def F_J6_length (g : xm_G) (p0 : Nat) (h : xm_H) : Option (Int32) :=
 xo_b (xh_fr [(15, 0)] h p0) (fun v1 =>
 xo_b v1 (fun a2 =>
 xo_b (xh_len h a2) (fun v3 =>
 xo_b (xh_is 15 h p0) (fun _ =>
 xo_b (F_J6_coder g p0 h) (fun v4 =>
 some (v3 >>> (v4 &&& 31)))))))
set_option maxHeartbeats 4000000 in
theorem K_J6_length {g : xm_G} (hG : xm_Gw g) (p0 : Nat) (h : xm_H) {o : Int32} (e : F_J6_length g p0 h = some o) {Q : xm_P} {X : xm_X} (hQ : Q (some (.int o)) h) : xm_Run g M_J6_length 2 [.ref p0] h 0 0 Q X := by
  refine xm_Run.of pn_java_lang_String (Nat.le_of_ble_eq_true rfl) (fun Γ hΓ => ?_)
  obtain ⟨P0, hP0, hp⟩ : ∃ P : Int32 → Prop, (∀ o, P o → Q (some (.int o)) h) ∧ P o := ⟨fun o => Q (some (.int o)) h, fun _ h => h, hQ⟩
  clear hQ
  show xm_W g Γ 0 [some (.ref p0)] [] h 0 0
  unfold F_J6_length at e
  refine xw_ald (show xm_Imp g Γ 0 (xi_ald 0 1) from xs_aload_n hΓ dJ6_length_0) rfl ?_
  obtain ⟨v1, e1, e⟩ := xo_b_s e
  refine xw_gr1 (o := (some p0)) (show xm_Imp g Γ 1 (xi_get 15 0 4) from xs_get hG hΓ (ci := 15) (kf := 0) rfl (Nat.le_of_ble_eq_true rfl) q709 dJ6_length_1) rfl e1 ?_
  obtain ⟨a2, ha2, e⟩ := xo_b_s e
  obtain ⟨v3, e1, e⟩ := xo_b_s e
  refine xw_hlen (o := v1) (show xm_Imp g Γ 4 (xi_len 5) from xs_len hG hΓ dJ6_length_4) ha2 e1 ?_
  refine xw_ald (show xm_Imp g Γ 5 (xi_ald 0 6) from xs_aload_n hΓ dJ6_length_5) rfl ?_
  obtain ⟨_, e0, e⟩ := xo_b_s e
  obtain ⟨v4, e1, e⟩ := xo_b_s e
  refine xw_hv0 (o := (some p0)) (show xm_Imp g Γ 6 (xi_vir g 15 M_J6_coder 1 0 9) from xs_invV hG hΓ k_J6_coder rfl (ci := 15) rfl q650 q651 q652 dJ6_length_6) rfl rfl e0 (fun Q X hQ => K_J6_coder hG p0 _ e1 hQ) ?_
  refine xw_ii (show xm_Imp g Γ 9 (xi_ii (fun x y => x >>> (y &&& 31)) 10) from xs_ishr hΓ dJ6_length_9) ?_
  have hq := hP0 _ (xl_fin e hp)
  exact xw_iret (show xm_Imp g Γ 10 (xi_iret .int _) from xs_ireturn hΓ rfl dJ6_length_10) (xn_int _) hq
noncomputable def B_J6_isLatin1_17 (g : xm_G) (h : xm_H) : Option (Int32) :=
 some 0
noncomputable def F_J6_isLatin1 (g : xm_G) (p0 : Nat) (h : xm_H) : Option (Int32) :=
 (if (1 : Int32) = 0 then
 B_J6_isLatin1_17 g h else
 xo_b (xh_fi [(15, 1)] h p0) (fun v1 =>
 (if v1 = 0 then
 some 1 else
 B_J6_isLatin1_17 g h)))
set_option maxHeartbeats 4000000 in
theorem K_J6_isLatin1 {g : xm_G} (hG : xm_Gw g) (p0 : Nat) (h : xm_H) {o : Int32} (e : F_J6_isLatin1 g p0 h = some o) {Q : xm_P} {X : xm_X} (hQ : Q (some (.int o)) h) : xm_Run g M_J6_isLatin1 1 [.ref p0] h 0 0 Q X := by
  refine xm_Run.of pn_java_lang_String (Nat.le_of_ble_eq_true rfl) (fun Γ hΓ => ?_)
  obtain ⟨P0, hP0, hp⟩ : ∃ P : Int32 → Prop, (∀ o, P o → Q (some (.int o)) h) ∧ P o := ⟨fun o => Q (some (.int o)) h, fun _ h => h, hQ⟩
  clear hQ
  show xm_W g Γ 0 [some (.ref p0)] [] h 0 0
  have hB_17 : ∀  (o : Int32), B_J6_isLatin1_17 g h = some o → P0 o → xm_W g Γ 17 [none] [] h 0 0 := by
    intro  o e hp
    unfold B_J6_isLatin1_17 at e
    refine xw_psh (v := (.int (0))) (show xm_Imp g Γ 17 (xi_psh (.int (0)) 18) from xs_iconst hΓ dJ6_isLatin1_17 (by decide)) ?_
    have hq := hP0 _ (xl_fin e hp)
    exact xw_iret (show xm_Imp g Γ 18 (xi_iret .boolean _) from xs_ireturn hΓ rfl dJ6_isLatin1_18) rfl hq
  unfold F_J6_isLatin1 at e
  refine xw_psh (v := (.int 1)) (show xm_Imp g Γ 0 (xi_psh (.int 1) 3) from xs_gst hG hΓ (st_COMPACT_STRINGS hG) q320 (lw_all_tbl q130) rfl q654 dJ6_isLatin1_0) ?_
  refine xw_if (show xm_Imp g Γ 3 (xi_if (fun x => x = 0) 17 6) from xs_if_eq hΓ dJ6_isLatin1_3 (by decide)) (fun c => ?_) (fun c => ?_)
  · rw [if_pos c] at e
    exact xm_lx (hB_17 _ e hp) (trivial)
  · rw [if_neg c] at e
    refine xw_ald (show xm_Imp g Γ 6 (xi_ald 0 7) from xs_aload_n hΓ dJ6_isLatin1_6) rfl ?_
    obtain ⟨v1, e1, e⟩ := xo_b_s e
    refine xw_gi1 (o := (some p0)) (show xm_Imp g Γ 7 (xi_get 15 1 10) from xs_get hG hΓ (ci := 15) (kf := 1) rfl (Nat.le_of_ble_eq_true rfl) q710 dJ6_isLatin1_7) rfl e1 ?_
    refine xw_if (show xm_Imp g Γ 10 (xi_if (fun x => x = 0) 13 17) from xs_if_ne hΓ dJ6_isLatin1_10 (by decide)) (fun c => ?_) (fun c => ?_)
    · rw [if_pos c] at e
      refine xw_psh (v := (.int (1))) (show xm_Imp g Γ 13 (xi_psh (.int (1)) 14) from xs_iconst hΓ dJ6_isLatin1_13 (by decide)) ?_
      refine xw_goto (show xm_Imp g Γ 14 (xi_goto 18) from xs_goto hΓ dJ6_isLatin1_14 (by decide)) ?_
      have hq := hP0 _ (xl_fin e hp)
      exact xw_iret (show xm_Imp g Γ 18 (xi_iret .boolean _) from xs_ireturn hΓ rfl dJ6_isLatin1_18) rfl hq
    · rw [if_neg c] at e
      exact xm_lx (hB_17 _ e hp) (trivial)
noncomputable def B_J12_checkIndex_9 (g : xm_G) (l0 : Int32) (l1 : Int32) (l2 : Option Nat) (h : xm_H) : Option (Int32) :=
 none
noncomputable def F_J12_checkIndex (g : xm_G) (p0 : Int32) (p1 : Int32) (p2 : Option Nat) (h : xm_H) : Option (Int32) :=
 (if p0 < 0 then
 B_J12_checkIndex_9 g p0 p1 p2 h else
 (if p0 < p1 then
 some p0 else
 B_J12_checkIndex_9 g p0 p1 p2 h))
set_option maxHeartbeats 4000000 in
theorem K_J12_checkIndex {g : xm_G} (hG : xm_Gw g) (p0 : Int32) (p1 : Int32) (p2 : Option Nat) (h : xm_H) {o : Int32} (e : F_J12_checkIndex g p0 p1 p2 h = some o) {Q : xm_P} {X : xm_X} (hQ : Q (some (.int o)) h) : xm_Run g M_J12_checkIndex 8 [.int p0, .int p1, va_rf p2] h 0 0 Q X := by
  refine xm_Run.of2 (ls := [some (.int p0), some (.int p1), some (va_rf p2)]) pn_jdk_internal_util_Preconditions (by cases p2 <;> exact Nat.le_of_ble_eq_true rfl) (by cases p2 <;> rfl) (fun Γ hΓ => ?_)
  obtain ⟨P0, hP0, hp⟩ : ∃ P : Int32 → Prop, (∀ o, P o → Q (some (.int o)) h) ∧ P o := ⟨fun o => Q (some (.int o)) h, fun _ h => h, hQ⟩
  clear hQ
  show xm_W g Γ 0 [some (.int p0), some (.int p1), some (va_rf p2)] [] h 0 0
  have hB_9 : ∀ (l0 : Int32) (l1 : Int32) (l2 : Option Nat) (o : Int32), B_J12_checkIndex_9 g l0 l1 l2 h = some o → P0 o → xm_W g Γ 9 [some (.int l0), some (.int l1), some (va_rf l2)] [] h 0 0 := by
    intro l0 l1 l2 o e hp
    unfold B_J12_checkIndex_9 at e
    refine xw_aldo (x := l2) (show xm_Imp g Γ 9 (xi_ald 2 10) from xs_aload_n hΓ dJ12_checkIndex_9) rfl ?_
    refine xw_ild (show xm_Imp g Γ 10 (xi_ild 0 11) from xs_iload_n hΓ dJ12_checkIndex_10) rfl ?_
    refine xw_ild (show xm_Imp g Γ 11 (xi_ild 1 12) from xs_iload_n hΓ dJ12_checkIndex_11) rfl ?_
    cases e
  unfold F_J12_checkIndex at e
  refine xw_ild (show xm_Imp g Γ 0 (xi_ild 0 1) from xs_iload_n hΓ dJ12_checkIndex_0) rfl ?_
  refine xw_if (show xm_Imp g Γ 1 (xi_if (fun x => x < 0) 9 4) from xs_if_lt hΓ dJ12_checkIndex_1 (by decide)) (fun c => ?_) (fun c => ?_)
  · rw [if_pos c] at e
    exact hB_9 _ _ _ _ e hp
  · rw [if_neg c] at e
    refine xw_ild (show xm_Imp g Γ 4 (xi_ild 0 5) from xs_iload_n hΓ dJ12_checkIndex_4) rfl ?_
    refine xw_ild (show xm_Imp g Γ 5 (xi_ild 1 6) from xs_iload_n hΓ dJ12_checkIndex_5) rfl ?_
    refine xw_ic (show xm_Imp g Γ 6 (xi_ic (fun x y => x < y) 16 9) from xs_icmp_lt hΓ dJ12_checkIndex_6 (by decide)) (fun c => ?_) (fun c => ?_)
    · rw [if_pos c] at e
      refine xw_ild (show xm_Imp g Γ 16 (xi_ild 0 17) from xs_iload_n hΓ dJ12_checkIndex_16) rfl ?_
      have hq := hP0 _ (xl_fin e hp)
      exact xw_iret (show xm_Imp g Γ 17 (xi_iret .int _) from xs_ireturn hΓ rfl dJ12_checkIndex_17) (xn_int _) hq
    · rw [if_neg c] at e
      exact hB_9 _ _ _ _ e hp
noncomputable def F_J6_checkIndex (g : xm_G) (p0 : Int32) (p1 : Int32) (h : xm_H) : Option (Unit) :=
 xo_b (F_J12_checkIndex g p0 p1 (xm_sto g "jdk/internal/util/Preconditions" "SIOOBE_FORMATTER" "Ljava/util/function/BiFunction;") h) (fun v1 =>
 some ())
set_option maxHeartbeats 4000000 in
theorem K_J6_checkIndex {g : xm_G} (hG : xm_Gw g) (p0 : Int32) (p1 : Int32) (h : xm_H) {o : Unit} (e : F_J6_checkIndex g p0 p1 h = some o) {Q : xm_P} {X : xm_X} (hQ : Q none h) : xm_Run g M_J6_checkIndex 9 [.int p0, .int p1] h 0 0 Q X := by
  refine xm_Run.of pn_java_lang_String (Nat.le_of_ble_eq_true rfl) (fun Γ hΓ => ?_)
  obtain ⟨P0, hP0, hp⟩ : ∃ P : Unit → Prop, (∀ o, P o → Q none h) ∧ P o := ⟨fun o => Q none h, fun _ h => h, hQ⟩
  clear hQ
  show xm_W g Γ 0 [some (.int p0), some (.int p1)] [] h 0 0
  unfold F_J6_checkIndex at e
  refine xw_ild (show xm_Imp g Γ 0 (xi_ild 0 1) from xs_iload_n hΓ dJ6_checkIndex_0) rfl ?_
  refine xw_ild (show xm_Imp g Γ 1 (xi_ild 1 2) from xs_iload_n hΓ dJ6_checkIndex_1) rfl ?_
  refine xw_psho (o := xm_sto g "jdk/internal/util/Preconditions" "SIOOBE_FORMATTER" "Ljava/util/function/BiFunction;") (show xm_Imp g Γ 2 (xi_psh (xm_stv g "jdk/internal/util/Preconditions" "SIOOBE_FORMATTER" "Ljava/util/function/BiFunction;") 5) from xs_gst hG hΓ (st_SIOOBE_FORMATTER hG) q489 (lw_all_tbl q139) rfl q488 dJ6_checkIndex_2) (so_SIOOBE_FORMATTER hG) ?_
  obtain ⟨v1, e1, e⟩ := xo_b_s e
  refine xw_sv3 (show xm_Imp g Γ 5 (xi_inv g M_J12_checkIndex 8 3 8) from xs_invS hG hΓ k_J12_checkIndex rfl q511 q512 dJ6_checkIndex_5) rfl (fun Q X hQ => K_J12_checkIndex hG p0 p1 (xm_sto g "jdk/internal/util/Preconditions" "SIOOBE_FORMATTER" "Ljava/util/function/BiFunction;") _ e1 hQ) ?_
  refine xw_pop (show xm_Imp g Γ 8 (xi_pop 9) from xs_pop hΓ dJ6_checkIndex_8) rfl ?_
  exact xw_vret (show xm_Imp g Γ 9 (xi_vret _) from xs_return hΓ rfl dJ6_checkIndex_9) (hP0 _ (xl_fin e hp))
noncomputable def F_J11_charAt (g : xm_G) (p0 : Option Nat) (p1 : Int32) (h : xm_H) : Option (Int32) :=
 xo_b p0 (fun a1 =>
 xo_b (xh_len h a1) (fun v2 =>
 xo_b (F_J6_checkIndex g p1 v2 h) (fun v3 =>
 xo_b (xh_ai .byte h a1 p1) (fun v4 =>
 xo_b (xb_chk .char (((v4 &&& 255).toUInt32 % 65536).toInt32)) (fun _ =>
 some (((v4 &&& 255).toUInt32 % 65536).toInt32))))))
set_option maxHeartbeats 4000000 in
theorem K_J11_charAt {g : xm_G} (hG : xm_Gw g) (p0 : Option Nat) (p1 : Int32) (h : xm_H) {o : Int32} (e : F_J11_charAt g p0 p1 h = some o) {Q : xm_P} {X : xm_X} (hQ : Q (some (.int o)) h) : xm_Run g M_J11_charAt 10 [va_rf p0, .int p1] h 0 0 Q X := by
  refine xm_Run.of2 (ls := [some (va_rf p0), some (.int p1)]) pn_java_lang_StringLatin1 (by cases p0 <;> exact Nat.le_of_ble_eq_true rfl) (by cases p0 <;> rfl) (fun Γ hΓ => ?_)
  obtain ⟨P0, hP0, hp⟩ : ∃ P : Int32 → Prop, (∀ o, P o → Q (some (.int o)) h) ∧ P o := ⟨fun o => Q (some (.int o)) h, fun _ h => h, hQ⟩
  clear hQ
  show xm_W g Γ 0 [some (va_rf p0), some (.int p1)] [] h 0 0
  unfold F_J11_charAt at e
  refine xw_ild (show xm_Imp g Γ 0 (xi_ild 1 1) from xs_iload_n hΓ dJ11_charAt_0) rfl ?_
  refine xw_aldo (x := p0) (show xm_Imp g Γ 1 (xi_ald 0 2) from xs_aload_n hΓ dJ11_charAt_1) rfl ?_
  obtain ⟨a1, ha1, e⟩ := xo_b_s e
  obtain ⟨v2, e1, e⟩ := xo_b_s e
  refine xw_hlen (o := p0) (show xm_Imp g Γ 2 (xi_len 3) from xs_len hG hΓ dJ11_charAt_2) ha1 e1 ?_
  obtain ⟨v3, e1, e⟩ := xo_b_s e
  refine xw_su2 (show xm_Imp g Γ 3 (xi_inv g M_J6_checkIndex 9 2 6) from xs_invS hG hΓ k_J6_checkIndex rfl q934 q509 dJ11_charAt_3) rfl (fun Q X hQ => K_J6_checkIndex hG p1 v2 _ e1 hQ) ?_
  refine xw_aldo (x := p0) (show xm_Imp g Γ 6 (xi_ald 0 7) from xs_aload_n hΓ dJ11_charAt_6) rfl ?_
  refine xw_ild (show xm_Imp g Γ 7 (xi_ild 1 8) from xs_iload_n hΓ dJ11_charAt_7) rfl ?_
  obtain ⟨v4, e1, e⟩ := xo_b_s e
  refine xw_hbal (o := p0) (show xm_Imp g Γ 8 (xi_bal 9) from xs_bal hG hΓ dJ11_charAt_8) ha1 e1 ?_
  refine xw_psh (v := (.int (255))) (show xm_Imp g Γ 9 (xi_psh (.int (255)) 12) from xs_sipush hΓ dJ11_charAt_9 (by decide)) ?_
  refine xw_ii (show xm_Imp g Γ 12 (xi_ii (fun x y => x &&& y) 13) from xs_iand hΓ dJ11_charAt_12) ?_
  refine xw_i1 (show xm_Imp g Γ 13 (xi_i1 (fun x => (x.toUInt32 % 65536).toInt32) 14) from xs_i2c hΓ dJ11_charAt_13) ?_
  obtain ⟨_, e1, e⟩ := xo_b_s e
  have hq := hP0 _ (xl_fin e hp)
  exact xw_iret (show xm_Imp g Γ 14 (xi_iret .char _) from xs_ireturn hΓ rfl dJ11_charAt_14) (xb_of e1) hq
noncomputable def F_J6_charAt (g : xm_G) (p0 : Nat) (p1 : Int32) (h : xm_H) : Option (Int32) :=
 xo_b (xh_is 15 h p0) (fun _ =>
 xo_b (F_J6_isLatin1 g p0 h) (fun v1 =>
 (if v1 = 0 then
 xo_b (xh_fr [(15, 0)] h p0) (fun v2 =>
 none) else
 xo_b (xh_fr [(15, 0)] h p0) (fun v3 =>
 xo_b (F_J11_charAt g v3 p1 h) (fun v4 =>
 xo_b (xb_chk .char v4) (fun _ =>
 some v4))))))
set_option maxHeartbeats 4000000 in
theorem K_J6_charAt {g : xm_G} (hG : xm_Gw g) (p0 : Nat) (p1 : Int32) (h : xm_H) {o : Int32} (e : F_J6_charAt g p0 p1 h = some o) {Q : xm_P} {X : xm_X} (hQ : Q (some (.int o)) h) : xm_Run g M_J6_charAt 11 [.ref p0, .int p1] h 0 0 Q X := by
  refine xm_Run.of pn_java_lang_String (Nat.le_of_ble_eq_true rfl) (fun Γ hΓ => ?_)
  obtain ⟨P0, hP0, hp⟩ : ∃ P : Int32 → Prop, (∀ o, P o → Q (some (.int o)) h) ∧ P o := ⟨fun o => Q (some (.int o)) h, fun _ h => h, hQ⟩
  clear hQ
  show xm_W g Γ 0 [some (.ref p0), some (.int p1)] [] h 0 0
  unfold F_J6_charAt at e
  refine xw_ald (show xm_Imp g Γ 0 (xi_ald 0 1) from xs_aload_n hΓ dJ6_charAt_0) rfl ?_
  obtain ⟨_, e0, e⟩ := xo_b_s e
  obtain ⟨v1, e1, e⟩ := xo_b_s e
  refine xw_hv0 (o := (some p0)) (show xm_Imp g Γ 1 (xi_vir g 15 M_J6_isLatin1 1 0 4) from xs_invV hG hΓ k_J6_isLatin1 rfl (ci := 15) rfl q833 q834 q835 dJ6_charAt_1) rfl rfl e0 (fun Q X hQ => K_J6_isLatin1 hG p0 _ e1 hQ) ?_
  refine xw_if (show xm_Imp g Γ 4 (xi_if (fun x => x = 0) 16 7) from xs_if_eq hΓ dJ6_charAt_4 (by decide)) (fun c => ?_) (fun c => ?_)
  · rw [if_pos c] at e
    refine xw_ald (show xm_Imp g Γ 16 (xi_ald 0 17) from xs_aload_n hΓ dJ6_charAt_16) rfl ?_
    obtain ⟨v2, e1, e⟩ := xo_b_s e
    refine xw_gr1 (o := (some p0)) (show xm_Imp g Γ 17 (xi_get 15 0 20) from xs_get hG hΓ (ci := 15) (kf := 0) rfl (Nat.le_of_ble_eq_true rfl) q709 dJ6_charAt_17) rfl e1 ?_
    refine xw_ild (show xm_Imp g Γ 20 (xi_ild 1 21) from xs_iload_n hΓ dJ6_charAt_20) rfl ?_
    cases e
  · rw [if_neg c] at e
    refine xw_ald (show xm_Imp g Γ 7 (xi_ald 0 8) from xs_aload_n hΓ dJ6_charAt_7) rfl ?_
    obtain ⟨v3, e1, e⟩ := xo_b_s e
    refine xw_gr1 (o := (some p0)) (show xm_Imp g Γ 8 (xi_get 15 0 11) from xs_get hG hΓ (ci := 15) (kf := 0) rfl (Nat.le_of_ble_eq_true rfl) q709 dJ6_charAt_8) rfl e1 ?_
    refine xw_ild (show xm_Imp g Γ 11 (xi_ild 1 12) from xs_iload_n hΓ dJ6_charAt_11) rfl ?_
    obtain ⟨v4, e1, e⟩ := xo_b_s e
    refine xw_sv2 (show xm_Imp g Γ 12 (xi_inv g M_J11_charAt 10 2 15) from xs_invS hG hΓ k_J11_charAt rfl q931 q932 dJ6_charAt_12) rfl (fun Q X hQ => K_J11_charAt hG v3 p1 _ e1 hQ) ?_
    obtain ⟨_, e1, e⟩ := xo_b_s e
    have hq := hP0 _ (xl_fin e hp)
    exact xw_iret (show xm_Imp g Γ 15 (xi_iret .char _) from xs_ireturn hΓ rfl dJ6_charAt_15) (xb_of e1) hq
