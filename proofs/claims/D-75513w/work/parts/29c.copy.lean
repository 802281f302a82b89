/-! INSTRUCTIONS: System.arraycopy -/
set_option maxRecDepth 100000
theorem xm_nn (z : Int32) (hz : ¬ z < 0) : z.toInt = (z.toNatClampNeg : Int) := by
  have hz0 : (0 : Int) ≤ z.toInt := by
    have := Int32.not_lt.mp hz
    simpa using Int32.le_iff_toInt_le.mp this
  show z.toInt = ((z.toInt.toNat : Nat) : Int)
  omega
section XSC
variable {g : xm_G} {Γ : xm_C} {M : xm_M} {d : Nat} {Q : xm_P} {X : xm_X} {pc : Nat}
def xi_cpi (ty : FieldType) (n : Nat) : xm_I := fun ls st h bc bs k => match st with
  | .int l0 :: .int dp :: .ref a :: .int sp :: .ref a0 :: r => ∃ (w : Bool) (n0 n1 : Nat) (f f' : Nat → Int32) (s d m : Nat), h a0 = some (w, .inl (ty, n0, .inl f)) ∧ h a = some (true, .inl (ty, n1, .inl f')) ∧ (sp = nI s ∧ dp = nI d ∧ l0 = nI m) ∧ (s + m ≤ n0 ∧ d + m ≤ n1 ∧ n0 < 2 ^ 31 ∧ n1 < 2 ^ 31) ∧ (∀ i, i < m → fits ty (.int (f (s + i))) = true) ∧ xm_stk 5 st = true ∧ k n ls r (xm_up h a (.inl (ty, n1, .inl (va_cpy f f' s d m)))) bc bs
  | _ => False
theorem xs_cpi (hG : xm_Gw g) (hΓ : xm_ok g Γ M d Q X) {ty : FieldType} (hdd : Nat.ble 1 d = true) (hprim : refKind ty = false) {index : Nat} (hl0 : Cond.methodLink M.1.cls index arraycopyName ∈ lw_all) (hd : decode M.2.1 pc = .ok (.invokestatic index, 3)) : xm_Imp g Γ pc (xi_cpi ty (pc + 3)) := by
  obtain ⟨p, e, R, s, m, args, below, meth, c, Qf⟩ := Γ
  obtain ⟨hx, hb, hml, hr, ho, hnm, hlk, htb, hW, hB0, hRf, hRl, hQf⟩ := hΓ
  intro ls st h bc bs k hk H lsA Hp locs cells slots hl hR hS hc hs
  have hts := xm_hts hG hW args
  have hdd := Nat.le_of_ble_eq_true hdd
  unfold xi_cpi at H
  split at H
  · next l0 dp a sp a0 r =>
    obtain ⟨w, n0, n1, f, f', sN, dN, mN, ha0, ha1, ⟨rfl, rfl, rfl⟩, ⟨g1, g2, g3, g4⟩, hfit, hk0, H⟩ := H
    have hk2 := (xm_stk_of hk0).2
    have es : (nI sN).toNatClampNeg = sN := nI_clamp (by omega)
    have ed : (nI dN).toNatClampNeg = dN := nI_clamp (by omega)
    have em : (nI mN).toNatClampNeg = mN := nI_clamp (by omega)
    have h1 : ¬ nI sN < 0 := nI_pos (by omega)
    have h2 : ¬ nI dN < 0 := nI_pos (by omega)
    have h3 : ¬ nI mN < 0 := nI_pos (by omega)
    obtain ⟨hty, scr, hc0, ⟨hs6, k0c, hk0c, cm0, hkk0⟩, hs3, -, -, hs4, -, hs5⟩ := xm_rdA hG hW (hR.1 _ _ _ ha0).1
    have hs4 : n0 ≤ scr.slots.size := hs4
    have hs5 : ∀ j, j < n0 → scr.slots[j]? = some (.int (f j)) := hs5
    obtain ⟨-, hc1⟩ := (hR.1 _ _ _ ha1).1
    have hA : xm_A g a := (hR.1 _ _ _ ha1).2 rfl
    obtain ⟨-, k1c, hk1c, cm1, hkk1⟩ := (xm_arr (xm_Ks hG hW) hty).1 n1 (fun j => .int (f' j))
    intro T hT X
    obtain ⟨vm', X', step⟩ := X.arraycopy hx ho (hts _ hl0) (hts _ (by decide +kernel)) (hts _ (by decide +kernel)) (hts _ (by decide +kernel)) (src := a0) (dst := a) (cs := scr) (cd := vp_cell (g.2.2.2 ty) (n1, .inl f')) (srcPos := nI sN) (destPos := nI dN) (n := nI mN) (by rw [hT]; exact hc0) (by rw [hT]; exact hc1)
      hs6 (fun _ h => by cases h) hs3 (fun h => by cases h) hk0c hk1c hkk0 hkk1 (by simp [hprim]) h1 h2 h3
      (by rw [xm_nn _ h1, xm_nn _ h3, es, em]; omega)
      (by rw [xm_nn _ h2, xm_nn _ h3, ed, em]; show ¬ _ > ((arrV _ n1 (fun j => .int (f' j))).slots.size : Int); rw [arrV_size]; omega)
      (fun vm₁ _ i hi => by
        rw [em] at hi
        have e : scr.slots.getD ((nI sN).toNatClampNeg + i) .null = .int (f (sN + i)) := by
          rw [es, Array.getD_eq_getD_getElem?, hs5 _ (by omega)]
          rfl
        refine ⟨?_, ?_⟩
        · rw [e]
          exact hfit i hi
        · rw [e]
          exact trivial)
      (g := F0 m pc lsA (.int (nI mN) :: .int (nI dN) :: .ref a :: .int (nI sN) :: .ref a0 :: r)) rfl (by rw [hl.1]) (rest := r) rfl (by rw [hb]; exact hd) (by omega) (by
        have : (r.map fun v => v.category).sum ≤ 8 := hk2
        show 2 * 0 + _ + (nativeFrameWords "java/lang/System" "arraycopy" 5 + 11) ≤ R.locals
        have e5 : nativeFrameWords "java/lang/System" "arraycopy" 5 ≤ 1000 := by decide +kernel
        omega)
    have e1 : copied scr (vp_cell (g.2.2.2 ty) (n1, .inl f')) (nI sN) (nI dN) (nI mN) = vp_cell (g.2.2.2 ty) (n1, .inl (va_cpy f f' sN dN mN)) := by
      have := va_copiedX (fun z => .int z) scr (g.2.2.2 ty) (n0 := n0) (n1 := n1) (sp := (nI sN).toNatClampNeg) (dp := (nI dN).toNatClampNeg) (n := (nI mN).toNatClampNeg) f f' hs5 (by omega)
      rw [es, ed, em] at this
      rw [← es, ← ed, ← em] at this
      refine Eq.trans this ?_
      rw [es, ed, em]
      rfl
    rw [e1] at X' step
    have hlt : a < Hp.size := (Array.getElem?_eq_some_iff.mp hc1).1
    have hheap : ((T.setVm vm').setCell a (vp_cell (g.2.2.2 ty) (n1, .inl (va_cpy f f' sN dN mN)))).heap = Hp.setIfInBounds a (vp_cell (g.2.2.2 ty) (n1, .inl (va_cpy f f' sN dN mN))) := by rw [← hT]; rfl
    have oq : ∀ q : Nat, q ≠ a → (Hp.setIfInBounds a (vp_cell (g.2.2.2 ty) (n1, .inl (va_cpy f f' sN dN mN))))[q]? = Hp[q]? := fun q hq => by simp [Array.getElem?_setIfInBounds, Ne.symm hq]
    have sz : (Hp.setIfInBounds a (vp_cell (g.2.2.2 ty) (n1, .inl (va_cpy f f' sN dN mN)))).size = Hp.size := by simp
    obtain ⟨t, a1, b1⟩ := hk _ _ _ _ _ _ H lsA _ _ cells slots hl (hR.put ha1 ⟨hty, show (Hp.setIfInBounds a _)[a]? = some _ by simp [Array.getElem?_setIfInBounds, hlt]⟩ sz oq) ⟨by rw [sz]; exact hS.1, fun q q1 q2 => by
        rw [oq q (fun e => q2 (by rw [e]; exact hA))]
        exact hS.2.1 q q1 q2, fun q hq => by
        rcases List.mem_append.mp hq with h | h
        · exact hS.2.2 q h
        · obtain ⟨z, -, hz⟩ := List.mem_map.mp h
          rw [← hz]
          exact hA⟩ hc hs _ hheap X'
    exact ⟨t, step t a1, b1⟩
  · exact H.elim
def xi_cpq (C : String) (n : Nat) : xm_I := fun ls st h bc bs k => match st with
  | .int l0 :: .int dp :: .ref a :: .int sp :: .ref a0 :: r => ∃ (w : Bool) (n0 n1 : Nat) (f f' : Nat → Option Nat) (s d m : Nat), h a0 = some (w, .inl (.object C, n0, .inr (.inr (.inr (.inr f))))) ∧ h a = some (true, .inl (.object C, n1, .inr (.inr (.inr (.inr f'))))) ∧ (sp = nI s ∧ dp = nI d ∧ l0 = nI m) ∧ (s + m ≤ n0 ∧ d + m ≤ n1 ∧ n0 < 2 ^ 31 ∧ n1 < 2 ^ 31) ∧ (∀ i, i < m → ∀ b, f (s + i) = some b → ∃ (w : Bool) (x : xm_E), h b = some (w, x) ∧ xm_sb x C) ∧ xm_stk 5 st = true ∧ k n ls r (xm_up h a (.inl (.object C, n1, .inr (.inr (.inr (.inr (va_cpy f f' s d m))))))) bc bs
  | _ => False
theorem xs_cpq (hG : xm_Gw g) (hΓ : xm_ok g Γ M d Q X) {C : String} (hdd : Nat.ble 1 d = true) {index : Nat} (hl0 : Cond.methodLink M.1.cls index arraycopyName ∈ lw_all) (hd : decode M.2.1 pc = .ok (.invokestatic index, 3)) : xm_Imp g Γ pc (xi_cpq C (pc + 3)) := by
  obtain ⟨p, e, R, s, m, args, below, meth, c, Qf⟩ := Γ
  obtain ⟨hx, hb, hml, hr, ho, hnm, hlk, htb, hW, hB0, hRf, hRl, hQf⟩ := hΓ
  intro ls st h bc bs k hk H lsA Hp locs cells slots hl hR hS hc hs
  have hts := xm_hts hG hW args
  have hdd := Nat.le_of_ble_eq_true hdd
  unfold xi_cpq at H
  split at H
  · next l0 dp a sp a0 r =>
    obtain ⟨w, n0, n1, f, f', sN, dN, mN, ha0, ha1, ⟨rfl, rfl, rfl⟩, ⟨g1, g2, g3, g4⟩, hfit, hk0, H⟩ := H
    have hk2 := (xm_stk_of hk0).2
    have es : (nI sN).toNatClampNeg = sN := nI_clamp (by omega)
    have ed : (nI dN).toNatClampNeg = dN := nI_clamp (by omega)
    have em : (nI mN).toNatClampNeg = mN := nI_clamp (by omega)
    have h1 : ¬ nI sN < 0 := nI_pos (by omega)
    have h2 : ¬ nI dN < 0 := nI_pos (by omega)
    have h3 : ¬ nI mN < 0 := nI_pos (by omega)
    obtain ⟨hty, scr, hc0, ⟨hs6, k0c, hk0c, cm0, hkk0⟩, hs3, -, -, hs4, -, hs5⟩ := xm_rdA hG hW (hR.1 _ _ _ ha0).1
    have hs4 : n0 ≤ scr.slots.size := hs4
    have hs5 : ∀ j, j < n0 → scr.slots[j]? = some (va_rf (f j)) := hs5
    obtain ⟨-, hc1⟩ := (hR.1 _ _ _ ha1).1
    have hA : xm_A g a := (hR.1 _ _ _ ha1).2 rfl
    have hK := xm_Ks hG hW
    obtain ⟨-, k1c, hk1c, cm1, hkk1⟩ := (xm_arr hK hty).1 n1 (fun j => va_rf (f' j))
    intro T hT X
    obtain ⟨vm', X', step⟩ := X.arraycopy hx ho (hts _ hl0) (hts _ (by decide +kernel)) (hts _ (by decide +kernel)) (hts _ (by decide +kernel)) (src := a0) (dst := a) (cs := scr) (cd := vp_cell (g.2.2.2 (.object C)) (n1, .inr (.inr (.inr (.inr f'))))) (srcPos := nI sN) (destPos := nI dN) (n := nI mN) (by rw [hT]; exact hc0) (by rw [hT]; exact hc1)
      hs6 (fun _ h => by cases h) hs3 (fun h => by cases h) hk0c hk1c hkk0 hkk1 rfl h1 h2 h3
      (by rw [xm_nn _ h1, xm_nn _ h3, es, em]; omega)
      (by rw [xm_nn _ h2, xm_nn _ h3, ed, em]; show ¬ _ > ((arrV _ n1 (fun j => va_rf (f' j))).slots.size : Int); rw [arrV_size]; omega)
      (fun vm₁ hal i hi => by
        rw [em] at hi
        have e : scr.slots.getD ((nI sN).toNatClampNeg + i) .null = va_rf (f (sN + i)) := by
          rw [es, Array.getD_eq_getD_getElem?, hs5 _ (by omega)]
          rfl
        rw [e]
        cases hy : f (sN + i) with
        | none => exact ⟨rfl, trivial⟩
        | some y =>
          obtain ⟨w', x, hb1, hsb⟩ := hfit i hi y hy
          obtain ⟨cellV, q1, q2, ⟨kV, q3⟩, q4⟩ := xm_any hG hW (hR.1 _ _ _ hb1).1 hsb
          obtain ⟨kA, comp, r1, r2, r3, -⟩ := (xm_arr hK hty).2
          cases hk1c.symm.trans r1
          cases hkk1.symm.trans r2
          obtain ⟨kE, hkE, -⟩ := Vm.findClass_spec r3
          obtain ⟨kC', hkC', -⟩ := hal.2.2 _ _ q3
          obtain ⟨kE', hkE', -⟩ := hal.2.2 _ _ hkE
          refine ⟨rfl, cellV, (show T.heap[y]? = some cellV by rw [hT]; exact q1), (fun q h => by rw [h] at q2; cases q2), ⟨kC', hkC'⟩, ⟨kE', hkE'⟩, ?_⟩
          show vm₁.assignable _ _ = true
          rw [hal.assignable]
          exact q4 _ r3)
      (g := F0 m pc lsA (.int (nI mN) :: .int (nI dN) :: .ref a :: .int (nI sN) :: .ref a0 :: r)) rfl (by rw [hl.1]) (rest := r) rfl (by rw [hb]; exact hd) (by omega) (by
        have : (r.map fun v => v.category).sum ≤ 8 := hk2
        show 2 * 0 + _ + (nativeFrameWords "java/lang/System" "arraycopy" 5 + 11) ≤ R.locals
        have e5 : nativeFrameWords "java/lang/System" "arraycopy" 5 ≤ 1000 := by decide +kernel
        omega)
    have e1 : copied scr (vp_cell (g.2.2.2 (.object C)) (n1, .inr (.inr (.inr (.inr f'))))) (nI sN) (nI dN) (nI mN) = vp_cell (g.2.2.2 (.object C)) (n1, .inr (.inr (.inr (.inr (va_cpy f f' sN dN mN))))) := by
      have := va_copiedX (fun z => va_rf z) scr (g.2.2.2 (.object C)) (n0 := n0) (n1 := n1) (sp := (nI sN).toNatClampNeg) (dp := (nI dN).toNatClampNeg) (n := (nI mN).toNatClampNeg) f f' hs5 (by omega)
      rw [vp_cell_q, vp_cell_q]
      refine Eq.trans this ?_
      rw [es, ed, em]
    rw [e1] at X' step
    have hlt : a < Hp.size := (Array.getElem?_eq_some_iff.mp hc1).1
    have hheap : ((T.setVm vm').setCell a (vp_cell (g.2.2.2 (.object C)) (n1, .inr (.inr (.inr (.inr (va_cpy f f' sN dN mN))))))).heap = Hp.setIfInBounds a (vp_cell (g.2.2.2 (.object C)) (n1, .inr (.inr (.inr (.inr (va_cpy f f' sN dN mN)))))) := by rw [← hT]; rfl
    have oq : ∀ q : Nat, q ≠ a → (Hp.setIfInBounds a (vp_cell (g.2.2.2 (.object C)) (n1, .inr (.inr (.inr (.inr (va_cpy f f' sN dN mN)))))))[q]? = Hp[q]? := fun q hq => by simp [Array.getElem?_setIfInBounds, Ne.symm hq]
    have sz : (Hp.setIfInBounds a (vp_cell (g.2.2.2 (.object C)) (n1, .inr (.inr (.inr (.inr (va_cpy f f' sN dN mN))))))).size = Hp.size := by simp
    obtain ⟨t, a1, b1⟩ := hk _ _ _ _ _ _ H lsA _ _ cells slots hl (hR.put ha1 ⟨hty, show (Hp.setIfInBounds a _)[a]? = some _ by simp [Array.getElem?_setIfInBounds, hlt]⟩ sz oq) ⟨by rw [sz]; exact hS.1, fun q q1 q2 => by
        rw [oq q (fun e => q2 (by rw [e]; exact hA))]
        exact hS.2.1 q q1 q2, fun q hq => by
        rcases List.mem_append.mp hq with h | h
        · exact hS.2.2 q h
        · obtain ⟨z, -, hz⟩ := List.mem_map.mp h
          rw [← hz]
          exact hA⟩ hc hs _ hheap X'
    exact ⟨t, step t a1, b1⟩
  · exact H.elim
end XSC
