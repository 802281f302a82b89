/-! THE REFERENCE: its cells as numbers and rows of numbers -/
set_option maxRecDepth 100000
/-- its fields, its arrays by the number of their field -/
abbrev xM_S : Type := (Nat → Int32) × (Nat → Nat → Int32)
def xM_len : Nat → Nat
  | 1 => 530
  | 2 => 530
  | 3 => 530
  | 4 => 5300
  | 9 => 60
  | 10 => 60
  | 11 => 60
  | 12 => 60
  | 13 => 60
  | 14 => 60
  | 15 => 60
  | 16 => 60
  | 17 => 60
  | 19 => 700
  | 33 => 480
  | 35 => 256
  | 36 => 48
  | 37 => 2
  | 40 => 2400
  | _ => 0
def xM_ty : Nat → FieldType
  | 19 => .byte
  | 40 => .byte
  | 37 => .boolean
  | _ => .int
def xM_ks : List Nat := [1, 2, 3, 4, 9, 10, 11, 12, 13, 14, 15, 16, 17, 19, 33, 35, 36, 37, 40]
def xM_fs (ad : Nat → Nat) (f : Nat → Int32) : List Value := [.int (f 0), .ref (ad 1), .ref (ad 2), .ref (ad 3), .ref (ad 4), .int (f 5), .int (f 6), .int (f 7), .int (f 8), .ref (ad 9), .ref (ad 10), .ref (ad 11), .ref (ad 12), .ref (ad 13), .ref (ad 14), .ref (ad 15), .ref (ad 16), .ref (ad 17), .int (f 18), .ref (ad 19), .int (f 20), .int (f 21), .int (f 22), .int (f 23), .int (f 24), .int (f 25), .int (f 26), .int (f 27), .int (f 28), .int (f 29), .int (f 30), .int (f 31), .int (f 32), .ref (ad 33), .int (f 34), .ref (ad 35), .ref (ad 36), .ref (ad 37), .int (f 38), .int (f 39), .ref (ad 40), .int (f 41)]
def xM_ar (σ : xM_S) (k : Nat) : xm_E := .inl (xM_ty k, xM_len k, .inl (σ.2 k))
/-- where its cells lie: apart from each other, and not on cells that are only read -/
def xM_ok (h0 : xm_H) (m : Nat) (ad : Nat → Nat) : Prop := (∀ k ∈ xM_ks, ad k ≠ m) ∧ (∀ k ∈ xM_ks, ∀ j ∈ xM_ks, ad k = ad j → k = j) ∧ (∀ w o, h0 m = some (w, o) → w = true) ∧ ∀ k ∈ xM_ks, ∀ w o, h0 (ad k) = some (w, o) → w = true
def xMp (h0 : xm_H) (m : Nat) (ad : Nat → Nat) (σ : xM_S) : xm_H := fun b => if b = m then some (true, .inr (4, xM_fs ad σ.1)) else match xM_ks.find? (fun k => ad k == b) with
  | some k => some (true, xM_ar σ k)
  | none => h0 b
def xM_f (σ : xM_S) (k : Nat) (v : Int32) : xM_S := (va_up σ.1 k v, σ.2)
def xM_a (σ : xM_S) (k j : Nat) (v : Int32) : xM_S := (σ.1, va_up σ.2 k (va_up (σ.2 k) j v))
theorem xM_len_lt {k : Nat} (hk : k ∈ xM_ks) : xM_len k < 2 ^ 31 := by
  have : ∀ k ∈ xM_ks, xM_len k < 2 ^ 31 := by decide
  exact this k hk
section XM
variable {h0 : xm_H} {m : Nat} {ad : Nat → Nat} {σ : xM_S}
theorem xMp_m : xMp h0 m ad σ m = some (true, .inr (4, xM_fs ad σ.1)) := if_pos rfl
theorem xM_find (ho : xM_ok h0 m ad) {k : Nat} (hk : k ∈ xM_ks) : xM_ks.find? (fun j => ad j == ad k) = some k := by
  cases hf : xM_ks.find? (fun j => ad j == ad k) with
  | none =>
    have := List.find?_eq_none.mp hf k hk
    simp at this
  | some j =>
    have h1 := List.find?_some hf
    have h2 := List.mem_of_find?_eq_some hf
    rw [ho.2.1 j h2 k hk (by simpa using h1)]
theorem xMp_a (ho : xM_ok h0 m ad) {k : Nat} (hk : k ∈ xM_ks) : xMp h0 m ad σ (ad k) = some (true, xM_ar σ k) := by
  unfold xMp
  rw [if_neg (ho.1 k hk), xM_find ho hk]
theorem xMp_f {k : Nat} {v : Int32} (hf : (xM_fs ad σ.1).set k (.int v) = xM_fs ad (va_up σ.1 k v)) : xm_up (xMp h0 m ad σ) m (.inr (4, (xM_fs ad σ.1).set k (.int v))) = xMp h0 m ad (xM_f σ k v) := by
  funext b
  unfold xm_up xMp
  by_cases hb : b = m
  · rw [if_pos hb, if_pos hb, hf]
    rfl
  · rw [if_neg hb, if_neg hb, if_neg hb]
    rfl
theorem xMp_w (ho : xM_ok h0 m ad) {k j : Nat} {v : Int32} (hk : k ∈ xM_ks) : xm_up (xMp h0 m ad σ) (ad k) (.inl (xM_ty k, xM_len k, .inl (va_up (σ.2 k) j v))) = xMp h0 m ad (xM_a σ k j v) := by
  funext b
  unfold xm_up
  by_cases hb : b = ad k
  · subst hb
    rw [if_pos rfl, xMp_a ho hk]
    unfold xM_ar xM_a
    simp [va_up]
  · rw [if_neg hb]
    unfold xMp
    by_cases hm : b = m
    · rw [if_pos hm, if_pos hm]
      rfl
    · rw [if_neg hm, if_neg hm]
      cases hf : xM_ks.find? (fun k => ad k == b) with
      | none => rfl
      | some i =>
        have h1 : ad i = b := by simpa using List.find?_some hf
        have hne : i ≠ k := by
          intro e
          subst e
          exact hb h1.symm
        simp [xM_ar, xM_a, va_up, hne]
/-- a cell that is only read stays so -/
theorem xMp_0 (ho : xM_ok h0 m ad) {b : Nat} {o : xm_E} (hb : h0 b = some (false, o)) : xMp h0 m ad σ b = some (false, o) := by
  unfold xMp
  rw [if_neg (fun e => by subst e; exact absurd (ho.2.2.1 _ _ hb) (by decide))]
  cases hf : xM_ks.find? (fun k => ad k == b) with
  | none => exact hb
  | some i =>
    have h1 : ad i = b := by simpa using List.find?_some hf
    subst h1
    exact absurd (ho.2.2.2 i (List.mem_of_find?_eq_some hf) _ _ hb) (by decide)
end XM
section XMW
variable {g : xm_G} {Γ : xm_C} {pc n : Nat} {ls : List (Option Value)} {st : List Value} {bc bs : Nat} {h0 : xm_H} {m : Nat} {ad : Nat → Nat} {σ : xM_S}
theorem xw_mgi {k : Nat} {v : Int32} (hi : xm_Imp g Γ pc (xi_get 4 k n)) (hf : ∀ f, (xM_fs ad f)[k]? = some (.int (f k))) (hv : σ.1 k = v) (kk : xm_W g Γ n ls (.int v :: st) (xMp h0 m ad σ) bc bs) : xm_W g Γ pc ls (.ref m :: st) (xMp h0 m ad σ) bc bs := by
  subst hv
  exact xm_use hi ⟨_, _, _, xMp_m, hf _, kk⟩
theorem xw_mga {k : Nat} (hi : xm_Imp g Γ pc (xi_get 4 k n)) (hf : ∀ f, (xM_fs ad f)[k]? = some (.ref (ad k))) (kk : xm_W g Γ n ls (.ref (ad k) :: st) (xMp h0 m ad σ) bc bs) : xm_W g Γ pc ls (.ref m :: st) (xMp h0 m ad σ) bc bs :=
  xm_use hi ⟨_, _, _, xMp_m, hf _, kk⟩
theorem xw_mpi {k : Nat} {v : Int32} {ty : FieldType} (hi : xm_Imp g Γ pc (xi_put 4 k ty n)) (hf : ∀ f v, (xM_fs ad f).set k (.int v) = xM_fs ad (va_up f k v)) (hn : narrow ty (.int v) = .int v ∧ fits ty (.int v) = true) (kk : xm_W g Γ n ls st (xMp h0 m ad (xM_f σ k v)) bc bs) : xm_W g Γ pc ls (.int v :: .ref m :: st) (xMp h0 m ad σ) bc bs := by
  refine xm_use hi ⟨_, xMp_m, hn, ?_⟩
  rw [xMp_f (hf _ _)]
  exact kk
theorem xw_mial {k j : Nat} {i v : Int32} (hi : xm_Imp g Γ pc (xi_ial n)) (ho : xM_ok h0 m ad) (hk : k ∈ xM_ks) (ht : xM_ty k = .int) (hj : xa_ix (xM_len k) i = some j) (hv : σ.2 k j = v) (kk : xm_W g Γ n ls (.int v :: st) (xMp h0 m ad σ) bc bs) : xm_W g Γ pc ls (.int i :: .ref (ad k) :: st) (xMp h0 m ad σ) bc bs := by
  subst hv
  obtain ⟨e1, e2⟩ := xa_ix_s hj
  refine xm_use hi ⟨true, xM_len k, σ.2 k, j, ?_, e1, ⟨e2, xM_len_lt hk⟩, kk⟩
  rw [xMp_a ho hk]
  unfold xM_ar
  rw [ht]
theorem xw_mbal {k j : Nat} {i v : Int32} (hi : xm_Imp g Γ pc (xi_bal n)) (ho : xM_ok h0 m ad) (hk : k ∈ xM_ks) (ht : xM_ty k = .byte) (hj : xa_ix (xM_len k) i = some j) (hv : σ.2 k j = v) (kk : xm_W g Γ n ls (.int v :: st) (xMp h0 m ad σ) bc bs) : xm_W g Γ pc ls (.int i :: .ref (ad k) :: st) (xMp h0 m ad σ) bc bs := by
  subst hv
  obtain ⟨e1, e2⟩ := xa_ix_s hj
  refine xm_use hi ⟨true, xM_len k, σ.2 k, j, ?_, e1, ⟨e2, xM_len_lt hk⟩, kk⟩
  rw [xMp_a ho hk]
  unfold xM_ar
  rw [ht]
theorem xw_mzal {k j : Nat} {i v : Int32} (hi : xm_Imp g Γ pc (xi_zal n)) (ho : xM_ok h0 m ad) (hk : k ∈ xM_ks) (ht : xM_ty k = .boolean) (hj : xa_ix (xM_len k) i = some j) (hv : σ.2 k j = v) (kk : xm_W g Γ n ls (.int v :: st) (xMp h0 m ad σ) bc bs) : xm_W g Γ pc ls (.int i :: .ref (ad k) :: st) (xMp h0 m ad σ) bc bs := by
  subst hv
  obtain ⟨e1, e2⟩ := xa_ix_s hj
  refine xm_use hi ⟨true, xM_len k, σ.2 k, j, ?_, e1, ⟨e2, xM_len_lt hk⟩, kk⟩
  rw [xMp_a ho hk]
  unfold xM_ar
  rw [ht]
theorem xw_mias {k j : Nat} {i v : Int32} (hi : xm_Imp g Γ pc (xi_ias n)) (ho : xM_ok h0 m ad) (hk : k ∈ xM_ks) (ht : xM_ty k = .int) (hj : xa_ix (xM_len k) i = some j) (kk : xm_W g Γ n ls st (xMp h0 m ad (xM_a σ k j (v))) bc bs) : xm_W g Γ pc ls (.int v :: .int i :: .ref (ad k) :: st) (xMp h0 m ad σ) bc bs := by
  obtain ⟨e1, e2⟩ := xa_ix_s hj
  refine xm_use hi ⟨xM_len k, σ.2 k, j, ?_, e1, ⟨e2, xM_len_lt hk⟩, ?_⟩
  · rw [xMp_a ho hk]
    unfold xM_ar
    rw [ht]
  · have e3 := xMp_w (σ := σ) (j := j) (v := v) ho hk
    rw [ht] at e3
    rw [e3]
    exact kk
theorem xw_mbas {k j : Nat} {i v : Int32} (hi : xm_Imp g Γ pc (xi_bas n)) (ho : xM_ok h0 m ad) (hk : k ∈ xM_ks) (ht : xM_ty k = .byte) (hj : xa_ix (xM_len k) i = some j) (kk : xm_W g Γ n ls st (xMp h0 m ad (xM_a σ k j (v.toInt8.toInt32))) bc bs) : xm_W g Γ pc ls (.int v :: .int i :: .ref (ad k) :: st) (xMp h0 m ad σ) bc bs := by
  obtain ⟨e1, e2⟩ := xa_ix_s hj
  refine xm_use hi ⟨xM_len k, σ.2 k, j, ?_, e1, ⟨e2, xM_len_lt hk⟩, ?_⟩
  · rw [xMp_a ho hk]
    unfold xM_ar
    rw [ht]
  · have e3 := xMp_w (σ := σ) (j := j) (v := v.toInt8.toInt32) ho hk
    rw [ht] at e3
    rw [e3]
    exact kk
theorem xw_mzas {k j : Nat} {i v : Int32} (hi : xm_Imp g Γ pc (xi_zas n)) (ho : xM_ok h0 m ad) (hk : k ∈ xM_ks) (ht : xM_ty k = .boolean) (hj : xa_ix (xM_len k) i = some j) (hn : narrow .boolean (.int v) = .int v) (kk : xm_W g Γ n ls st (xMp h0 m ad (xM_a σ k j (v))) bc bs) : xm_W g Γ pc ls (.int v :: .int i :: .ref (ad k) :: st) (xMp h0 m ad σ) bc bs := by
  obtain ⟨e1, e2⟩ := xa_ix_s hj
  refine xm_use hi ⟨xM_len k, σ.2 k, j, ?_, e1, ⟨e2, xM_len_lt hk⟩, hn, ?_⟩
  · rw [xMp_a ho hk]
    unfold xM_ar
    rw [ht]
  · have e3 := xMp_w (σ := σ) (j := j) (v := v) ho hk
    rw [ht] at e3
    rw [e3]
    exact kk
theorem xw_mv0 {M' : xm_M} {d' : Nat} {h' : xm_H} {r : Value} (hi : xm_Imp g Γ pc (xi_vir g 4 M' d' 0 n)) (hs : xm_stk 0 (.ref m :: st) = true) (hr : ∀ (Q : xm_P) (X : xm_X), Q (some r) h' → xm_Run g M' d' [.ref m] (xMp h0 m ad σ) 0 0 Q X) (k : xm_W g Γ n ls (r :: st) h' bc bs) : xm_W g Γ pc ls (.ref m :: st) (xMp h0 m ad σ) bc bs := xm_use hi ⟨hs, true, _, 0, 0, xMp_m, ⟨Nat.zero_le _, Nat.zero_le _⟩, hr _ _ k⟩
theorem xw_mu0 {M' : xm_M} {d' : Nat} {h' : xm_H} (hi : xm_Imp g Γ pc (xi_vir g 4 M' d' 0 n)) (hs : xm_stk 0 (.ref m :: st) = true) (hr : ∀ (Q : xm_P) (X : xm_X), Q (none) h' → xm_Run g M' d' [.ref m] (xMp h0 m ad σ) 0 0 Q X) (k : xm_W g Γ n ls (st) h' bc bs) : xm_W g Γ pc ls (.ref m :: st) (xMp h0 m ad σ) bc bs := xm_use hi ⟨hs, true, _, 0, 0, xMp_m, ⟨Nat.zero_le _, Nat.zero_le _⟩, hr _ _ k⟩
theorem xw_mv1 {M' : xm_M} {d' : Nat} {h' : xm_H} {a1 : Value} {r : Value} (hi : xm_Imp g Γ pc (xi_vir g 4 M' d' 1 n)) (hs : xm_stk 1 (a1 :: .ref m :: st) = true) (hr : ∀ (Q : xm_P) (X : xm_X), Q (some r) h' → xm_Run g M' d' [.ref m, a1] (xMp h0 m ad σ) 0 0 Q X) (k : xm_W g Γ n ls (r :: st) h' bc bs) : xm_W g Γ pc ls (a1 :: .ref m :: st) (xMp h0 m ad σ) bc bs := xm_use hi ⟨hs, true, _, 0, 0, xMp_m, ⟨Nat.zero_le _, Nat.zero_le _⟩, hr _ _ k⟩
theorem xw_mu1 {M' : xm_M} {d' : Nat} {h' : xm_H} {a1 : Value} (hi : xm_Imp g Γ pc (xi_vir g 4 M' d' 1 n)) (hs : xm_stk 1 (a1 :: .ref m :: st) = true) (hr : ∀ (Q : xm_P) (X : xm_X), Q (none) h' → xm_Run g M' d' [.ref m, a1] (xMp h0 m ad σ) 0 0 Q X) (k : xm_W g Γ n ls (st) h' bc bs) : xm_W g Γ pc ls (a1 :: .ref m :: st) (xMp h0 m ad σ) bc bs := xm_use hi ⟨hs, true, _, 0, 0, xMp_m, ⟨Nat.zero_le _, Nat.zero_le _⟩, hr _ _ k⟩
theorem xw_mv2 {M' : xm_M} {d' : Nat} {h' : xm_H} {a1 a2 : Value} {r : Value} (hi : xm_Imp g Γ pc (xi_vir g 4 M' d' 2 n)) (hs : xm_stk 2 (a2 :: a1 :: .ref m :: st) = true) (hr : ∀ (Q : xm_P) (X : xm_X), Q (some r) h' → xm_Run g M' d' [.ref m, a1, a2] (xMp h0 m ad σ) 0 0 Q X) (k : xm_W g Γ n ls (r :: st) h' bc bs) : xm_W g Γ pc ls (a2 :: a1 :: .ref m :: st) (xMp h0 m ad σ) bc bs := xm_use hi ⟨hs, true, _, 0, 0, xMp_m, ⟨Nat.zero_le _, Nat.zero_le _⟩, hr _ _ k⟩
theorem xw_mu2 {M' : xm_M} {d' : Nat} {h' : xm_H} {a1 a2 : Value} (hi : xm_Imp g Γ pc (xi_vir g 4 M' d' 2 n)) (hs : xm_stk 2 (a2 :: a1 :: .ref m :: st) = true) (hr : ∀ (Q : xm_P) (X : xm_X), Q (none) h' → xm_Run g M' d' [.ref m, a1, a2] (xMp h0 m ad σ) 0 0 Q X) (k : xm_W g Γ n ls (st) h' bc bs) : xm_W g Γ pc ls (a2 :: a1 :: .ref m :: st) (xMp h0 m ad σ) bc bs := xm_use hi ⟨hs, true, _, 0, 0, xMp_m, ⟨Nat.zero_le _, Nat.zero_le _⟩, hr _ _ k⟩
theorem xw_mv3 {M' : xm_M} {d' : Nat} {h' : xm_H} {a1 a2 a3 : Value} {r : Value} (hi : xm_Imp g Γ pc (xi_vir g 4 M' d' 3 n)) (hs : xm_stk 3 (a3 :: a2 :: a1 :: .ref m :: st) = true) (hr : ∀ (Q : xm_P) (X : xm_X), Q (some r) h' → xm_Run g M' d' [.ref m, a1, a2, a3] (xMp h0 m ad σ) 0 0 Q X) (k : xm_W g Γ n ls (r :: st) h' bc bs) : xm_W g Γ pc ls (a3 :: a2 :: a1 :: .ref m :: st) (xMp h0 m ad σ) bc bs := xm_use hi ⟨hs, true, _, 0, 0, xMp_m, ⟨Nat.zero_le _, Nat.zero_le _⟩, hr _ _ k⟩
theorem xw_mu3 {M' : xm_M} {d' : Nat} {h' : xm_H} {a1 a2 a3 : Value} (hi : xm_Imp g Γ pc (xi_vir g 4 M' d' 3 n)) (hs : xm_stk 3 (a3 :: a2 :: a1 :: .ref m :: st) = true) (hr : ∀ (Q : xm_P) (X : xm_X), Q (none) h' → xm_Run g M' d' [.ref m, a1, a2, a3] (xMp h0 m ad σ) 0 0 Q X) (k : xm_W g Γ n ls (st) h' bc bs) : xm_W g Γ pc ls (a3 :: a2 :: a1 :: .ref m :: st) (xMp h0 m ad σ) bc bs := xm_use hi ⟨hs, true, _, 0, 0, xMp_m, ⟨Nat.zero_le _, Nat.zero_le _⟩, hr _ _ k⟩
theorem xw_mv4 {M' : xm_M} {d' : Nat} {h' : xm_H} {a1 a2 a3 a4 : Value} {r : Value} (hi : xm_Imp g Γ pc (xi_vir g 4 M' d' 4 n)) (hs : xm_stk 4 (a4 :: a3 :: a2 :: a1 :: .ref m :: st) = true) (hr : ∀ (Q : xm_P) (X : xm_X), Q (some r) h' → xm_Run g M' d' [.ref m, a1, a2, a3, a4] (xMp h0 m ad σ) 0 0 Q X) (k : xm_W g Γ n ls (r :: st) h' bc bs) : xm_W g Γ pc ls (a4 :: a3 :: a2 :: a1 :: .ref m :: st) (xMp h0 m ad σ) bc bs := xm_use hi ⟨hs, true, _, 0, 0, xMp_m, ⟨Nat.zero_le _, Nat.zero_le _⟩, hr _ _ k⟩
theorem xw_mu4 {M' : xm_M} {d' : Nat} {h' : xm_H} {a1 a2 a3 a4 : Value} (hi : xm_Imp g Γ pc (xi_vir g 4 M' d' 4 n)) (hs : xm_stk 4 (a4 :: a3 :: a2 :: a1 :: .ref m :: st) = true) (hr : ∀ (Q : xm_P) (X : xm_X), Q (none) h' → xm_Run g M' d' [.ref m, a1, a2, a3, a4] (xMp h0 m ad σ) 0 0 Q X) (k : xm_W g Γ n ls (st) h' bc bs) : xm_W g Γ pc ls (a4 :: a3 :: a2 :: a1 :: .ref m :: st) (xMp h0 m ad σ) bc bs := xm_use hi ⟨hs, true, _, 0, 0, xMp_m, ⟨Nat.zero_le _, Nat.zero_le _⟩, hr _ _ k⟩
theorem xw_mv5 {M' : xm_M} {d' : Nat} {h' : xm_H} {a1 a2 a3 a4 a5 : Value} {r : Value} (hi : xm_Imp g Γ pc (xi_vir g 4 M' d' 5 n)) (hs : xm_stk 5 (a5 :: a4 :: a3 :: a2 :: a1 :: .ref m :: st) = true) (hr : ∀ (Q : xm_P) (X : xm_X), Q (some r) h' → xm_Run g M' d' [.ref m, a1, a2, a3, a4, a5] (xMp h0 m ad σ) 0 0 Q X) (k : xm_W g Γ n ls (r :: st) h' bc bs) : xm_W g Γ pc ls (a5 :: a4 :: a3 :: a2 :: a1 :: .ref m :: st) (xMp h0 m ad σ) bc bs := xm_use hi ⟨hs, true, _, 0, 0, xMp_m, ⟨Nat.zero_le _, Nat.zero_le _⟩, hr _ _ k⟩
theorem xw_mu5 {M' : xm_M} {d' : Nat} {h' : xm_H} {a1 a2 a3 a4 a5 : Value} (hi : xm_Imp g Γ pc (xi_vir g 4 M' d' 5 n)) (hs : xm_stk 5 (a5 :: a4 :: a3 :: a2 :: a1 :: .ref m :: st) = true) (hr : ∀ (Q : xm_P) (X : xm_X), Q (none) h' → xm_Run g M' d' [.ref m, a1, a2, a3, a4, a5] (xMp h0 m ad σ) 0 0 Q X) (k : xm_W g Γ n ls (st) h' bc bs) : xm_W g Γ pc ls (a5 :: a4 :: a3 :: a2 :: a1 :: .ref m :: st) (xMp h0 m ad σ) bc bs := xm_use hi ⟨hs, true, _, 0, 0, xMp_m, ⟨Nat.zero_le _, Nat.zero_le _⟩, hr _ _ k⟩
theorem xw_mv6 {M' : xm_M} {d' : Nat} {h' : xm_H} {a1 a2 a3 a4 a5 a6 : Value} {r : Value} (hi : xm_Imp g Γ pc (xi_vir g 4 M' d' 6 n)) (hs : xm_stk 6 (a6 :: a5 :: a4 :: a3 :: a2 :: a1 :: .ref m :: st) = true) (hr : ∀ (Q : xm_P) (X : xm_X), Q (some r) h' → xm_Run g M' d' [.ref m, a1, a2, a3, a4, a5, a6] (xMp h0 m ad σ) 0 0 Q X) (k : xm_W g Γ n ls (r :: st) h' bc bs) : xm_W g Γ pc ls (a6 :: a5 :: a4 :: a3 :: a2 :: a1 :: .ref m :: st) (xMp h0 m ad σ) bc bs := xm_use hi ⟨hs, true, _, 0, 0, xMp_m, ⟨Nat.zero_le _, Nat.zero_le _⟩, hr _ _ k⟩
theorem xw_mu6 {M' : xm_M} {d' : Nat} {h' : xm_H} {a1 a2 a3 a4 a5 a6 : Value} (hi : xm_Imp g Γ pc (xi_vir g 4 M' d' 6 n)) (hs : xm_stk 6 (a6 :: a5 :: a4 :: a3 :: a2 :: a1 :: .ref m :: st) = true) (hr : ∀ (Q : xm_P) (X : xm_X), Q (none) h' → xm_Run g M' d' [.ref m, a1, a2, a3, a4, a5, a6] (xMp h0 m ad σ) 0 0 Q X) (k : xm_W g Γ n ls (st) h' bc bs) : xm_W g Γ pc ls (a6 :: a5 :: a4 :: a3 :: a2 :: a1 :: .ref m :: st) (xMp h0 m ad σ) bc bs := xm_use hi ⟨hs, true, _, 0, 0, xMp_m, ⟨Nat.zero_le _, Nat.zero_le _⟩, hr _ _ k⟩
end XMW
/-! the constant texts -/
def xk_W : List Int32 := [104, 32, 115, 32, 115, 100, 103, 32, 120, 32, 121, 32, 122, 32, 99, 120, 32, 99, 122, 32, 115, 119, 97, 112, 32, 109, 101, 97, 115, 117, 114, 101, 32, 119, 104, 101, 110, 32, 115, 101, 101, 100, 32, 116, 111, 108, 100, 32, 113, 117, 98, 105, 116, 115, 32]
def xk_L : List Int32 := [73, 88, 89, 90]
def xk_ch (tx : List Int32) (i : Int32) : Option Int32 := xo_b (xa_ix tx.length i) (fun j => tx[j]?)
/-- the constant texts that the programs use -/
def xk_tb : List (String × Nat × List Int32) := [("StringTableauModel", 271, xk_W), ("StringTableauModel", 434, xk_L)]
/-- a constant text stands in the heap: its object and its bytes are only read -/
def xk_S (h : xm_H) (a : Nat) (tx : List Int32) : Prop := ∃ (b : Nat) (hs hz : Int32) (f : Nat → Int32), h a = some (false, .inr (15, [.ref b, .int 0, .int hs, .int hz])) ∧ h b = some (false, .inl (.byte, tx.length, .inl f)) ∧ ∀ j, j < tx.length → tx[j]? = some (f j)
def xk_B (g : xm_G) (h : xm_H) : Prop := ∀ q ∈ xk_tb, xk_S h (xm_sa g q.1 q.2.1) q.2.2
section XMT
variable {g : xm_G} {Γ : xm_C} {pc n : Nat} {ls : List (Option Value)} {st : List Value} {bc bs : Nat} {h0 : xm_H} {m : Nat} {ad : Nat → Nat} {σ : xM_S}
theorem xk_S.str {a : Nat} {tx : List Int32} (h : xk_S h0 a tx) (ho : xM_ok h0 m ad) (ht : tx.length < 2 ^ 31) : ∃ f : Nat → Int32, xS_s (xMp h0 m ad σ) a tx.length f ∧ ∀ j, j < tx.length → tx[j]? = some (f j) := by
  obtain ⟨b, s1, s2, f, h1, h2, h3⟩ := h
  exact ⟨f, ⟨false, false, b, s1, s2, xMp_0 ho h1, xMp_0 ho h2, ht⟩, h3⟩
theorem xk_lo : ∀ q ∈ xk_tb, q.2.2.length < 2 ^ 31 ∧ ∀ v ∈ q.2.2, ja_u8 v = v := by decide +kernel
theorem xw_mlen {tx : List Int32} {own : String} {q : Nat} (hG : xm_Gw g) (hi : xm_Imp g Γ pc (xi_vir g 15 M_J6_length 2 0 n)) (ho : xM_ok h0 m ad) (hB : xk_B g h0) (hq : (own, q, tx) ∈ xk_tb) (hs : xm_stk 0 (.ref (xm_sa g own q) :: st) = true) (kk : xm_W g Γ n ls (.int (nI tx.length) :: st) (xMp h0 m ad σ) bc bs) : xm_W g Γ pc ls (.ref (xm_sa g own q) :: st) (xMp h0 m ad σ) bc bs := by
  obtain ⟨f, h1, h2⟩ := (hB _ hq).str (σ := σ) ho (xk_lo _ hq).1
  have h3 := h1
  obtain ⟨w, w2, b, s1, s2, c1, -⟩ := h3
  refine xw_hv0 (o := some (xm_sa g own q)) (u := ()) hi hs rfl ?_ (fun Q X hQ => K_J6_length hG _ _ (J_length h1) hQ) kk
  simp [xh_is, c1]
theorem xw_mch {tx : List Int32} {own : String} {q : Nat} {i v : Int32} (hG : xm_Gw g) (hi : xm_Imp g Γ pc (xi_vir g 15 M_J6_charAt 11 1 n)) (ho : xM_ok h0 m ad) (hB : xk_B g h0) (hq : (own, q, tx) ∈ xk_tb) (hs : xm_stk 1 (.int i :: .ref (xm_sa g own q) :: st) = true) (hv : xk_ch tx i = some v) (kk : xm_W g Γ n ls (.int v :: st) (xMp h0 m ad σ) bc bs) : xm_W g Γ pc ls (.int i :: .ref (xm_sa g own q) :: st) (xMp h0 m ad σ) bc bs := by
  obtain ⟨f, h1, h2⟩ := (hB _ hq).str (σ := σ) ho (xk_lo _ hq).1
  have h3 := h1
  obtain ⟨w, w2, b, s1, s2, c1, -⟩ := h3
  obtain ⟨j, e1, e2⟩ := xo_b_s hv
  obtain ⟨rfl, hj⟩ := xa_ix_s e1
  have e3 : f j = v := Option.some.inj ((h2 j hj).symm.trans e2)
  have e4 : ja_u8 (f j) = v := by
    rw [e3]
    exact (xk_lo _ hq).2 v (List.mem_of_getElem? e2)
  have e5 := J_charAt (g := g) h1 hj
  rw [e4] at e5
  refine xw_hv1 (o := some (xm_sa g own q)) (u := ()) hi hs rfl ?_ (fun Q X hQ => K_J6_charAt hG _ _ _ e5 hQ) kk
  simp [xh_is, c1]
end XMT
