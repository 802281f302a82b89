/-! THE CALL OF A LAMBDA as a function -/
set_option maxRecDepth 100000
noncomputable def F_LAM_on (g : xm_G) (a : Nat) (p0 : Option Nat) (p1 p2 : Int32) (h : xm_H) : Option xm_H :=
  if a = xm_la g 0 then F_X1_lambda_gateOf_0 g p0 p1 p2 h else
  if a = xm_la g 1 then F_X1_lambda_gateOf_1 g p0 p1 p2 h else
  if a = xm_la g 2 then F_X1_lambda_gateOf_2 g p0 p1 p2 h else
  if a = xm_la g 3 then F_X1_lambda_gateOf_3 g p0 p1 p2 h else
  if a = xm_la g 4 then F_X1_lambda_gateOf_4 g p0 p1 p2 h else
  if a = xm_la g 5 then F_X1_lambda_gateOf_5 g p0 p1 p2 h else
  if a = xm_la g 6 then F_X1_lambda_gateOf_6 g p0 p1 p2 h else
  if a = xm_la g 7 then F_X1_lambda_gateOf_7 g p0 p1 p2 h else
  if a = xm_la g 8 then F_X1_lambda_gateOf_8 g p0 p1 p2 h else none
noncomputable def F_LAM_of (g : xm_G) (a : Nat) (p0 : Option Nat) (p1 : Int32) (h : xm_H) : Option Int32 :=
  if a = xm_la g 9 then F_X3_lambda_canonical_0 g p0 p1 h else if a = xm_la g 10 then F_X3_lambda_canonical_1 g p0 p1 h else none
theorem K_LAM_on {g : xm_G} (hG : xm_Gw g) (a : Nat) (p0 : Option Nat) (p1 p2 : Int32) (h : xm_H) {o : xm_H} (e : F_LAM_on g a p0 p1 p2 h = some o) : ∃ (i : Nat) (M' : xm_M) (d' : Nat), (i, M', d') ∈ xL_ons ∧ a = xm_la g i ∧ ∀ (Q : xm_P) (X : xm_X), Q none o → xm_Run g M' d' [va_rf p0, .int p1, .int p2] h 0 0 Q X := by
  unfold F_LAM_on at e
  by_cases c0 : a = xm_la g 0
  · rw [if_pos c0] at e
    exact ⟨0, M_X1_lambda_gateOf_0, 4, List.mem_of_getElem? (i := 0) rfl, c0, fun Q X hQ => K_X1_lambda_gateOf_0 hG p0 p1 p2 h e hQ⟩
  rw [if_neg c0] at e
  by_cases c1 : a = xm_la g 1
  · rw [if_pos c1] at e
    exact ⟨1, M_X1_lambda_gateOf_1, 4, List.mem_of_getElem? (i := 1) rfl, c1, fun Q X hQ => K_X1_lambda_gateOf_1 hG p0 p1 p2 h e hQ⟩
  rw [if_neg c1] at e
  by_cases c2 : a = xm_la g 2
  · rw [if_pos c2] at e
    exact ⟨2, M_X1_lambda_gateOf_2, 4, List.mem_of_getElem? (i := 2) rfl, c2, fun Q X hQ => K_X1_lambda_gateOf_2 hG p0 p1 p2 h e hQ⟩
  rw [if_neg c2] at e
  by_cases c3 : a = xm_la g 3
  · rw [if_pos c3] at e
    exact ⟨3, M_X1_lambda_gateOf_3, 3, List.mem_of_getElem? (i := 3) rfl, c3, fun Q X hQ => K_X1_lambda_gateOf_3 hG p0 p1 p2 h e hQ⟩
  rw [if_neg c3] at e
  by_cases c4 : a = xm_la g 4
  · rw [if_pos c4] at e
    exact ⟨4, M_X1_lambda_gateOf_4, 3, List.mem_of_getElem? (i := 4) rfl, c4, fun Q X hQ => K_X1_lambda_gateOf_4 hG p0 p1 p2 h e hQ⟩
  rw [if_neg c4] at e
  by_cases c5 : a = xm_la g 5
  · rw [if_pos c5] at e
    exact ⟨5, M_X1_lambda_gateOf_5, 3, List.mem_of_getElem? (i := 5) rfl, c5, fun Q X hQ => K_X1_lambda_gateOf_5 hG p0 p1 p2 h e hQ⟩
  rw [if_neg c5] at e
  by_cases c6 : a = xm_la g 6
  · rw [if_pos c6] at e
    exact ⟨6, M_X1_lambda_gateOf_6, 4, List.mem_of_getElem? (i := 6) rfl, c6, fun Q X hQ => K_X1_lambda_gateOf_6 hG p0 p1 p2 h e hQ⟩
  rw [if_neg c6] at e
  by_cases c7 : a = xm_la g 7
  · rw [if_pos c7] at e
    exact ⟨7, M_X1_lambda_gateOf_7, 4, List.mem_of_getElem? (i := 7) rfl, c7, fun Q X hQ => K_X1_lambda_gateOf_7 hG p0 p1 p2 h e hQ⟩
  rw [if_neg c7] at e
  by_cases c8 : a = xm_la g 8
  · rw [if_pos c8] at e
    exact ⟨8, M_X1_lambda_gateOf_8, 4, List.mem_of_getElem? (i := 8) rfl, c8, fun Q X hQ => K_X1_lambda_gateOf_8 hG p0 p1 p2 h e hQ⟩
  rw [if_neg c8] at e
  cases e
theorem K_LAM_of {g : xm_G} (hG : xm_Gw g) (a : Nat) (p0 : Option Nat) (p1 : Int32) (h : xm_H) {o : Int32} (e : F_LAM_of g a p0 p1 h = some o) : ∃ (i : Nat) (M' : xm_M) (d' : Nat), (i, M', d') ∈ xL_ofs ∧ a = xm_la g i ∧ ∀ (Q : xm_P) (X : xm_X), Q (some (.int o)) h → xm_Run g M' d' [va_rf p0, .int p1] h 0 0 Q X := by
  unfold F_LAM_of at e
  by_cases c9 : a = xm_la g 9
  · rw [if_pos c9] at e
    exact ⟨9, M_X3_lambda_canonical_0, 3, List.mem_of_getElem? (i := 0) rfl, c9, fun Q X hQ => K_X3_lambda_canonical_0 hG p0 p1 h e hQ⟩
  rw [if_neg c9] at e
  by_cases c10 : a = xm_la g 10
  · rw [if_pos c10] at e
    exact ⟨10, M_X3_lambda_canonical_1, 3, List.mem_of_getElem? (i := 1) rfl, c10, fun Q X hQ => K_X3_lambda_canonical_1 hG p0 p1 h e hQ⟩
  rw [if_neg c10] at e
  cases e
