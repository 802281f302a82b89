/-! KNOWN CELLS: readings, writings, and rows over them -/
set_option maxRecDepth 100000
def xt_b {α : Type} (o : Option α) (K : α → Prop) : Prop := ∃ v, o = some v ∧ K v
theorem xt_bs {α : Type} {o : Option α} {v : α} {K : α → Prop} (h : o = some v) : xt_b o K ↔ K v := by
  constructor
  · rintro ⟨w, e, k⟩
    rw [h] at e
    cases e
    exact k
  · exact fun k => ⟨v, h, k⟩
theorem xt_bi {α : Type} {o : Option α} (v : α) {K : α → Prop} (h : o = some v) (k : K v) : xt_b o K := ⟨v, h, k⟩
def xt_it {S : Type} (body : (S → Prop) → S → Prop) : Nat → S → Prop
  | 0, _ => False
  | n + 1, s => body (xt_it body n) s
def xt_loop {S : Type} (body : (S → Prop) → S → Prop) (s : S) : Prop := ∃ n, xt_it body n s
theorem xt_rule {S : Type} {body : (S → Prop) → S → Prop} {WS : S → Prop} (hb : ∀ k : S → Prop, (∀ s, k s → WS s) → ∀ s, body k s → WS s) : ∀ s, xt_loop body s → WS s := by
  rintro s ⟨n, h⟩
  revert s
  induction n with
  | zero => exact fun s h => h.elim
  | succ n ih => exact fun s h => hb _ ih s h
/-- a new cell of N slots -/
def xt_new (h : xm_H) (bc bs N : Nat) (o : xm_E) (K : Nat → xm_H → Nat → Nat → Prop) : Prop := (1 ≤ bc ∧ N ≤ bs) ∧ ∀ a : Nat, h a = none → K a (xm_up h a o) (bc - 1) (bs - N)
/-- a call's room -/
def xt_c (bc bs : Nat) (F : Nat → Nat → Prop) : Prop := ∃ mc ms : Nat, (mc ≤ bc ∧ ms ≤ bs) ∧ F mc ms
theorem xt_ci {bc bs : Nat} (mc ms : Nat) {F : Nat → Nat → Prop} (h1 : mc ≤ bc) (h2 : ms ≤ bs) (h : F mc ms) : xt_c bc bs F := ⟨mc, ms, ⟨h1, h2⟩, h⟩
/-- what is done where E is caught -/
def xt_h (E : String) : List (String × Prop) → Prop
  | [] => False
  | (nm, P) :: r => (Cond.castable E nm ∈ lw_tbl ∧ P) ∨ (xm_nc E nm ∧ xt_h E r)
theorem xm_covN (own : String) (pc : Nat) (hh : List (Nat × Nat × Nat × Nat)) : xm_cov own pc hh [] := by
  cases hh <;> exact trivial
theorem xm_cov1 {own nm : String} {pc a b t ct : Nat} {r : List (Nat × Nat × Nat × Nat)} {hs : List (String × Nat)} (hc : covers ⟨a, b, t, ct⟩ pc = true) (h0 : ct ≠ 0) (hl : Cond.classLink own ct nm ∈ lw_all) (hr : xm_cov own pc r hs) : xm_cov own pc ((a, b, t, ct) :: r) ((nm, t) :: hs) := by
  unfold xm_cov
  rw [if_pos hc]
  exact ⟨rfl, h0, hl, hr⟩
theorem xm_cov0 {own nm : String} {pc a b t ct t' : Nat} {r : List (Nat × Nat × Nat × Nat)} {hs : List (String × Nat)} (hc : covers ⟨a, b, t, ct⟩ pc = false) (hr : xm_cov own pc r ((nm, t') :: hs)) : xm_cov own pc ((a, b, t, ct) :: r) ((nm, t') :: hs) := by
  unfold xm_cov
  rw [if_neg (by rw [hc]; decide)]
  exact hr
def xv_i : Value → Option Int32
  | .int x => some x
  | _ => none
def xv_l : Value → Option Int64
  | .long x => some x
  | _ => none
def xv_g : Value → Option UInt32
  | .float x => some x
  | _ => none
def xv_r : Value → Option (Option Nat)
  | .ref a => some (some a)
  | .null => some none
  | _ => none
theorem xv_i_s {v : Value} {x : Int32} (h : xv_i v = some x) : v = .int x := by cases v <;> first | (cases h; rfl) | cases h
theorem xv_l_s {v : Value} {x : Int64} (h : xv_l v = some x) : v = .long x := by cases v <;> first | (cases h; rfl) | cases h
theorem xv_g_s {v : Value} {x : UInt32} (h : xv_g v = some x) : v = .float x := by cases v <;> first | (cases h; rfl) | cases h
theorem xv_r_s {v : Value} {x : Option Nat} (h : xv_r v = some x) : v = va_rf x := by cases v <;> first | (cases h; rfl) | cases h
/-- the field of an object of one of some classes -/
def xh_f (cs : List (Nat × Nat)) (h : xm_H) (a : Nat) : Option Value := match h a with
  | some (_, .inr (ci, fs)) => xo_b (cs.lookup ci) (fun kf => fs[kf]?)
  | _ => none
def xh_fi (cs : List (Nat × Nat)) (h : xm_H) (a : Nat) : Option Int32 := xo_b (xh_f cs h a) xv_i
def xh_fl (cs : List (Nat × Nat)) (h : xm_H) (a : Nat) : Option Int64 := xo_b (xh_f cs h a) xv_l
def xh_fg (cs : List (Nat × Nat)) (h : xm_H) (a : Nat) : Option UInt32 := xo_b (xh_f cs h a) xv_g
def xh_fr (cs : List (Nat × Nat)) (h : xm_H) (a : Nat) : Option (Option Nat) := xo_b (xh_f cs h a) xv_r
theorem xh_f_s {cs : List (Nat × Nat)} {h : xm_H} {a : Nat} {v : Value} (e : xh_f cs h a = some v) : ∃ (w : Bool) (ci : Nat) (fs : List Value) (kf : Nat), h a = some (w, .inr (ci, fs)) ∧ cs.lookup ci = some kf ∧ fs[kf]? = some v := by
  unfold xh_f at e
  split at e
  · next w ci fs q =>
    obtain ⟨kf, e1, e2⟩ := xo_b_s e
    exact ⟨w, ci, fs, kf, q, e1, e2⟩
  · cases e
def xh_w (cs : List (Nat × Nat)) (h : xm_H) (a : Nat) (v : Value) : Option xm_H := match h a with
  | some (true, .inr (ci, fs)) => xo_b (cs.lookup ci) (fun kf => some (xm_up h a (.inr (ci, fs.set kf v))))
  | _ => none
theorem xh_w_s {cs : List (Nat × Nat)} {h h1 : xm_H} {a : Nat} {v : Value} (e : xh_w cs h a v = some h1) : ∃ (ci : Nat) (fs : List Value) (kf : Nat), h a = some (true, .inr (ci, fs)) ∧ cs.lookup ci = some kf ∧ h1 = xm_up h a (.inr (ci, fs.set kf v)) := by
  unfold xh_w at e
  split at e
  · next ci fs q =>
    obtain ⟨kf, e1, e2⟩ := xo_b_s e
    cases e2
    exact ⟨ci, fs, kf, q, e1, rfl⟩
  · cases e
/-- it is an object of the class -/
def xh_is (ci : Nat) (h : xm_H) (a : Nat) : Option Unit := match h a with
  | some (_, .inr (cj, _)) => if cj = ci then some () else none
  | _ => none
theorem xh_is_s {ci : Nat} {h : xm_H} {a : Nat} {u : Unit} (e : xh_is ci h a = some u) : ∃ (w : Bool) (fs : List Value), h a = some (w, .inr (ci, fs)) := by
  unfold xh_is at e
  split at e
  · next w cj fs q =>
    split at e
    · next c => subst c; exact ⟨w, fs, q⟩
    · cases e
  · cases e
def xh_ci (h : xm_H) (a : Nat) : Option Nat := match h a with
  | some (_, .inr (cj, _)) => some cj
  | _ => none
theorem xh_ci_s {ci : Nat} {h : xm_H} {a : Nat} (e : xh_ci h a = some ci) : ∃ (w : Bool) (fs : List Value), h a = some (w, .inr (ci, fs)) := by
  unfold xh_ci at e
  split at e
  · next w cj fs q => cases e; exact ⟨w, fs, q⟩
  · cases e
theorem xh_is_of {c ci : Nat} {h : xm_H} {a : Nat} (e : xh_ci h a = some c) (hc : c = ci) : xh_is ci h a = some () := by
  subst hc
  unfold xh_ci at e
  unfold xh_is
  split at e
  · cases e
    rw [if_pos rfl]
  · cases e
/-! arrays -/
def xh_ai (ty : FieldType) (h : xm_H) (a : Nat) (i : Int32) : Option Int32 := match h a with
  | some (_, .inl (t, N, .inl f)) => if t = ty ∧ N < 2 ^ 31 then xo_b (xa_ix N i) (fun j => some (f j)) else none
  | _ => none
def xh_si (ty : FieldType) (h : xm_H) (a : Nat) (i : Int32) (v : Int32) : Option xm_H := match h a with
  | some (true, .inl (t, N, .inl f)) => if t = ty ∧ N < 2 ^ 31 then xo_b (xa_ix N i) (fun j => some (xm_up h a (.inl (t, N, .inl (va_up f j v))))) else none
  | _ => none
def xh_ar (C : String) (h : xm_H) (a : Nat) (i : Int32) : Option (Option Nat) := match h a with
  | some (_, .inl (t, N, .inr (.inr (.inr (.inr f))))) => if t = .object C ∧ N < 2 ^ 31 then xo_b (xa_ix N i) (fun j => some (f j)) else none
  | _ => none
noncomputable def xh_sr (C : String) (h : xm_H) (a : Nat) (i : Int32) (o : Option Nat) : Option xm_H := match h a with
  | some (true, .inl (t, N, .inr (.inr (.inr (.inr f))))) => if t = .object C ∧ N < 2 ^ 31 then xo_b (xa_ix N i) (fun j => xo_b (xo_g (∀ b, o = some b → ∃ (w : Bool) (x : xm_E), h b = some (w, x) ∧ xm_sb x C)) (fun _ => some (xm_up h a (.inl (t, N, .inr (.inr (.inr (.inr (va_up f j o)))))))))  else none
  | _ => none
def xh_al (h : xm_H) (a : Nat) (i : Int32) : Option Int64 := match h a with
  | some (_, .inl (.long, N, .inr (.inl f))) => if N < 2 ^ 31 then xo_b (xa_ix N i) (fun j => some (f j)) else none
  | _ => none
def xh_sl (h : xm_H) (a : Nat) (i : Int32) (v : Int64) : Option xm_H := match h a with
  | some (true, .inl (.long, N, .inr (.inl f))) => if N < 2 ^ 31 then xo_b (xa_ix N i) (fun j => some (xm_up h a (.inl (.long, N, .inr (.inl (va_up f j v)))))) else none
  | _ => none
def xh_ad (h : xm_H) (a : Nat) (i : Int32) : Option UInt64 := match h a with
  | some (_, .inl (.double, N, .inr (.inr (.inr (.inl f))))) => if N < 2 ^ 31 then xo_b (xa_ix N i) (fun j => some (f j)) else none
  | _ => none
def xh_sd (h : xm_H) (a : Nat) (i : Int32) (v : UInt64) : Option xm_H := match h a with
  | some (true, .inl (.double, N, .inr (.inr (.inr (.inl f))))) => if N < 2 ^ 31 then xo_b (xa_ix N i) (fun j => some (xm_up h a (.inl (.double, N, .inr (.inr (.inr (.inl (va_up f j v)))))))) else none
  | _ => none
def xh_len (h : xm_H) (a : Nat) : Option Int32 := match h a with
  | some (_, .inl (_, A)) => some (nI A.1)
  | _ => none
/-- the length of a new array -/
def xa_nat (x : Int32) : Option Nat := if 0 ≤ x.toInt ∧ x.toInt.toNat ≤ 1048576 then some x.toInt.toNat else none
theorem xa_nat_s {x : Int32} {N : Nat} (h : xa_nat x = some N) : x = nI N ∧ N ≤ 1048576 := by
  unfold xa_nat at h
  split at h
  · next c =>
    cases h
    refine ⟨(xa_ix_s (N := 1048577) (j := x.toInt.toNat) ?_).1, c.2⟩
    unfold xa_ix
    rw [if_pos ⟨c.1, by omega⟩]
  · cases h
theorem xa_nat_n {N : Nat} (h : N ≤ 1048576) : xa_nat (nI N) = some N := by
  have h1 := xa_ix_n (N := 1048577) (j := N) (by omega) (by omega)
  unfold xa_ix at h1
  unfold xa_nat
  split at h1
  · next c =>
    rw [if_pos ⟨c.1, by omega⟩]
    exact h1
  · cases h1
noncomputable def xh_cast (T : String) (h : xm_H) (o : Option Nat) : Option Unit := xo_g (∀ a, o = some a → ∃ (w : Bool) (x : xm_E) (C : String), h a = some (w, x) ∧ xm_nm x C ∧ (C = T ∨ Cond.castable C T ∈ lw_tbl))
noncomputable def xh_castY (T : String) (h : xm_H) (o : Option Nat) : Option Unit := xo_g (∀ a, o = some a → ∃ (w : Bool) (x : xm_E) (C : String), h a = some (w, x) ∧ xm_nm x C ∧ Cond.castable C T ∈ lw_tbl)
noncomputable def xh_castA (ty : FieldType) (h : xm_H) (o : Option Nat) : Option Unit := xo_g (∀ a, o = some a → ∃ (w : Bool) (A : vp_A), h a = some (w, .inl (ty, A)))
def xh_in1 (T : String) (h : xm_H) (o : Option Nat) : Prop := ∃ (a : Nat) (w : Bool) (x : xm_E), o = some a ∧ h a = some (w, x) ∧ xm_nm x T
def xh_in0 (T : String) (h : xm_H) (o : Option Nat) : Prop := ∀ a, o = some a → ∃ (w : Bool) (x : xm_E) (C : String), h a = some (w, x) ∧ xm_nm x C ∧ xm_nc C T
noncomputable def xh_inst (T : String) (h : xm_H) (o : Option Nat) : Option Int32 := @ite _ (xh_in1 T h o) (Classical.propDecidable _) (some 1) (@ite _ (xh_in0 T h o) (Classical.propDecidable _) (some 0) none)
noncomputable def xh_cpi (ty : FieldType) (h : xm_H) (a0 : Nat) (sp : Int32) (a : Nat) (dp l0 : Int32) : Option xm_H := match h a0, h a with
  | some (_, .inl (t0, n0, .inl f)), some (true, .inl (t1, n1, .inl f')) => xo_b (xo_g (t0 = ty ∧ t1 = ty ∧ n0 < 2 ^ 31 ∧ n1 < 2 ^ 31)) (fun _ => xo_b (xa_ix (2 ^ 31) sp) (fun s => xo_b (xa_ix (2 ^ 31) dp) (fun d => xo_b (xa_ix (2 ^ 31) l0) (fun m => xo_b (xo_g (s + m ≤ n0 ∧ d + m ≤ n1 ∧ ∀ i, i < m → fits ty (.int (f (s + i))) = true)) (fun _ => some (xm_up h a (.inl (ty, n1, .inl (va_cpy f f' s d m)))))))))
  | _, _ => none
noncomputable def xh_cpq (C : String) (h : xm_H) (a0 : Nat) (sp : Int32) (a : Nat) (dp l0 : Int32) : Option xm_H := match h a0, h a with
  | some (_, .inl (t0, n0, .inr (.inr (.inr (.inr f))))), some (true, .inl (t1, n1, .inr (.inr (.inr (.inr f'))))) => xo_b (xo_g (t0 = .object C ∧ t1 = .object C ∧ n0 < 2 ^ 31 ∧ n1 < 2 ^ 31)) (fun _ => xo_b (xa_ix (2 ^ 31) sp) (fun s => xo_b (xa_ix (2 ^ 31) dp) (fun d => xo_b (xa_ix (2 ^ 31) l0) (fun m => xo_b (xo_g (s + m ≤ n0 ∧ d + m ≤ n1 ∧ ∀ i, i < m → ∀ b, f (s + i) = some b → ∃ (w : Bool) (x : xm_E), h b = some (w, x) ∧ xm_sb x C)) (fun _ => some (xm_up h a (.inl (.object C, n1, .inr (.inr (.inr (.inr (va_cpy f f' s d m))))))))))))
  | _, _ => none
/-- the bytes of an array of our own -/
noncomputable def xh_bytes (h : xm_H) (a : Nat) : Option (Nat × (Nat → Int32)) := match h a with
  | some (true, .inl (t, N, .inl f)) => xo_b (xo_g (t = .byte ∧ ∀ i, i < N → fits .byte (.int (f i)) = true)) (fun _ => some (N, f))
  | _ => none
theorem xv_cat (o : Option Nat) : (va_rf o).category = 1 := by cases o <;> rfl
theorem xc_int (x : Int32) : (Value.int x).category = 1 := rfl
theorem xc_long (x : Int64) : (Value.long x).category = 2 := rfl
theorem xc_float (x : UInt32) : (Value.float x).category = 1 := rfl
theorem xc_double (x : UInt64) : (Value.double x).category = 2 := rfl
theorem xc_ref (x : Nat) : (Value.ref x).category = 1 := rfl
theorem xm_c1_rf (o : Option Nat) : xm_c1 (va_rf o) = true := by cases o <;> rfl
theorem xm_c2_rf (o : Option Nat) : xm_c2 (some (some (va_rf o))) = false := by cases o <;> rfl
theorem xm_s1_o {ls : List (Option Value)} {j : Nat} {o : Option Nat} {v : Value} (h : ls[j]? = some (some (va_rf o))) : xm_s1 ls (j + 1) v = ls.set (j + 1) (some v) := by
  show (bif xm_c2 ls[j]? then (ls.set j none).set (j + 1) (some v) else ls.set (j + 1) (some v)) = _
  rw [h, xm_c2_rf]
  rfl
theorem xh_lkm {ci kf : Nat} : ∀ l : List (Nat × Nat), List.lookup ci l = some kf → (ci, kf) ∈ l
  | [], h => by cases h
  | (a, b) :: r, h => by
    rw [List.lookup_cons] at h
    split at h
    · next q => cases h; rw [eq_of_beq q]; exact List.mem_cons_self
    · exact List.mem_cons_of_mem _ (xh_lkm r h)
theorem xv_fit {ty : FieldType} (hty : (∃ n, ty = .object n) ∨ ∃ t, ty = .array t) (o : Option Nat) : narrow ty (va_rf o) = va_rf o ∧ fits ty (va_rf o) = true := by
  rcases hty with ⟨n, rfl⟩ | ⟨t, rfl⟩ <;> cases o <;> exact ⟨rfl, rfl⟩
theorem xm_Run.of2 {g : xm_G} {M : xm_M} {d : Nat} {av : List Value} {h : xm_H} {mc ms : Nat} {Q : xm_P} {X : xm_X} {ls : List (Option Value)} (hy : plainName M.1.cls = true) (hn : (lg_sl av).length ≤ M.2.2.1) (hl : xm_en av ++ List.replicate (M.2.2.1 - (lg_sl av).length) none = ls)
    (body : ∀ Γ, xm_ok g Γ M d Q X → xm_W g Γ 0 ls [] h mc ms) : xm_Run g M d av h mc ms Q X := by
  subst hl
  exact xm_Run.of hy hn body
section XH
variable {g : xm_G} {Γ : xm_C} {pc n : Nat} {ls : List (Option Value)} {st : List Value} {h : xm_H} {bc bs : Nat} {o : Option Nat} {a : Nat}
theorem xm_or1 {i j : xm_I} (hi : xm_Imp g Γ pc (xi_or i j)) : xm_Imp g Γ pc i := fun ls st h bc bs k hk H => hi ls st h bc bs k hk (Or.inl H)
theorem xm_or2 {i j : xm_I} (hi : xm_Imp g Γ pc (xi_or i j)) : xm_Imp g Γ pc j := fun ls st h bc bs k hk H => hi ls st h bc bs k hk (Or.inr H)
theorem xw_nul {t : Nat} (hi : xm_Imp g Γ pc (xi_nul t n)) (k1 : o = none → xm_W g Γ t ls st h bc bs) (k2 : ¬ o = none → xm_W g Γ n ls st h bc bs) : xm_W g Γ pc ls (va_rf o :: st) h bc bs := by
  refine xm_use hi ?_
  cases o with
  | none => exact k1 rfl
  | some a => exact k2 (by intro e; cases e)
theorem xw_acm {t : Nat} {o2 : Option Nat} (hi : xm_Imp g Γ pc (xi_acm t n)) (k1 : o = o2 → xm_W g Γ t ls st h bc bs) (k2 : ¬ o = o2 → xm_W g Γ n ls st h bc bs) : xm_W g Γ pc ls (va_rf o2 :: va_rf o :: st) h bc bs := by
  refine xm_use hi ⟨o, o2, ?_, ?_, k1, k2⟩
  · cases o <;> rfl
  · cases o2 <;> rfl
theorem xh_lk1 {c0 k0 ci kf : Nat} (hc : List.lookup ci [(c0, k0)] = some kf) : (ci = c0 ∧ kf = k0) := by
  simpa using xh_lkm _ hc
theorem xw_gi1 {c0 k0 : Nat} {v : Int32} (hi0 : xm_Imp g Γ pc (xi_get c0 k0 n)) (ho : o = some a) (hv : xh_fi [(c0, k0)] h a = some v) (k : xm_W g Γ n ls (.int v :: st) h bc bs) : xm_W g Γ pc ls (va_rf o :: st) h bc bs := by
  subst ho
  obtain ⟨u, e1, e2⟩ := xo_b_s hv
  obtain ⟨w, ci, fs, kf, q1, q2, q3⟩ := xh_f_s e1
  cases xv_i_s e2
  rcases xh_lk1 q2 with ⟨rfl, rfl⟩
  · exact xm_use hi0 ⟨_, _, _, q1, q3, k⟩
theorem xw_gl1 {c0 k0 : Nat} {v : Int64} (hi0 : xm_Imp g Γ pc (xi_get c0 k0 n)) (ho : o = some a) (hv : xh_fl [(c0, k0)] h a = some v) (k : xm_W g Γ n ls (.long v :: st) h bc bs) : xm_W g Γ pc ls (va_rf o :: st) h bc bs := by
  subst ho
  obtain ⟨u, e1, e2⟩ := xo_b_s hv
  obtain ⟨w, ci, fs, kf, q1, q2, q3⟩ := xh_f_s e1
  cases xv_l_s e2
  rcases xh_lk1 q2 with ⟨rfl, rfl⟩
  · exact xm_use hi0 ⟨_, _, _, q1, q3, k⟩
theorem xw_gg1 {c0 k0 : Nat} {v : UInt32} (hi0 : xm_Imp g Γ pc (xi_get c0 k0 n)) (ho : o = some a) (hv : xh_fg [(c0, k0)] h a = some v) (k : xm_W g Γ n ls (.float v :: st) h bc bs) : xm_W g Γ pc ls (va_rf o :: st) h bc bs := by
  subst ho
  obtain ⟨u, e1, e2⟩ := xo_b_s hv
  obtain ⟨w, ci, fs, kf, q1, q2, q3⟩ := xh_f_s e1
  cases xv_g_s e2
  rcases xh_lk1 q2 with ⟨rfl, rfl⟩
  · exact xm_use hi0 ⟨_, _, _, q1, q3, k⟩
theorem xw_gr1 {c0 k0 : Nat} {v : Option Nat} (hi0 : xm_Imp g Γ pc (xi_get c0 k0 n)) (ho : o = some a) (hv : xh_fr [(c0, k0)] h a = some v) (k : xm_W g Γ n ls (va_rf v :: st) h bc bs) : xm_W g Γ pc ls (va_rf o :: st) h bc bs := by
  subst ho
  obtain ⟨u, e1, e2⟩ := xo_b_s hv
  obtain ⟨w, ci, fs, kf, q1, q2, q3⟩ := xh_f_s e1
  cases xv_r_s e2
  rcases xh_lk1 q2 with ⟨rfl, rfl⟩
  · exact xm_use hi0 ⟨_, _, _, q1, q3, k⟩
theorem xw_pt1 {c0 k0 : Nat} {ty : FieldType} {v : Value} {h1 : xm_H} (hi0 : xm_Imp g Γ pc (xi_put c0 k0 ty n)) (ho : o = some a) (hn : narrow ty v = v ∧ fits ty v = true) (hv : xh_w [(c0, k0)] h a v = some h1) (k : xm_W g Γ n ls st h1 bc bs) : xm_W g Γ pc ls (v :: va_rf o :: st) h bc bs := by
  subst ho
  obtain ⟨ci, fs, kf, q1, q2, q3⟩ := xh_w_s hv
  subst q3
  rcases xh_lk1 q2 with ⟨rfl, rfl⟩
  · exact xm_use hi0 ⟨_, q1, hn, k⟩
theorem xh_lk2 {c0 k0 c1 k1 ci kf : Nat} (hc : List.lookup ci [(c0, k0), (c1, k1)] = some kf) : (ci = c0 ∧ kf = k0) ∨ (ci = c1 ∧ kf = k1) := by
  simpa using xh_lkm _ hc
theorem xw_gi2 {c0 k0 c1 k1 : Nat} {v : Int32} (hi0 : xm_Imp g Γ pc (xi_get c0 k0 n)) (hi1 : xm_Imp g Γ pc (xi_get c1 k1 n)) (ho : o = some a) (hv : xh_fi [(c0, k0), (c1, k1)] h a = some v) (k : xm_W g Γ n ls (.int v :: st) h bc bs) : xm_W g Γ pc ls (va_rf o :: st) h bc bs := by
  subst ho
  obtain ⟨u, e1, e2⟩ := xo_b_s hv
  obtain ⟨w, ci, fs, kf, q1, q2, q3⟩ := xh_f_s e1
  cases xv_i_s e2
  rcases xh_lk2 q2 with ⟨rfl, rfl⟩ | ⟨rfl, rfl⟩
  · exact xm_use hi0 ⟨_, _, _, q1, q3, k⟩
  · exact xm_use hi1 ⟨_, _, _, q1, q3, k⟩
theorem xw_gl2 {c0 k0 c1 k1 : Nat} {v : Int64} (hi0 : xm_Imp g Γ pc (xi_get c0 k0 n)) (hi1 : xm_Imp g Γ pc (xi_get c1 k1 n)) (ho : o = some a) (hv : xh_fl [(c0, k0), (c1, k1)] h a = some v) (k : xm_W g Γ n ls (.long v :: st) h bc bs) : xm_W g Γ pc ls (va_rf o :: st) h bc bs := by
  subst ho
  obtain ⟨u, e1, e2⟩ := xo_b_s hv
  obtain ⟨w, ci, fs, kf, q1, q2, q3⟩ := xh_f_s e1
  cases xv_l_s e2
  rcases xh_lk2 q2 with ⟨rfl, rfl⟩ | ⟨rfl, rfl⟩
  · exact xm_use hi0 ⟨_, _, _, q1, q3, k⟩
  · exact xm_use hi1 ⟨_, _, _, q1, q3, k⟩
theorem xw_gg2 {c0 k0 c1 k1 : Nat} {v : UInt32} (hi0 : xm_Imp g Γ pc (xi_get c0 k0 n)) (hi1 : xm_Imp g Γ pc (xi_get c1 k1 n)) (ho : o = some a) (hv : xh_fg [(c0, k0), (c1, k1)] h a = some v) (k : xm_W g Γ n ls (.float v :: st) h bc bs) : xm_W g Γ pc ls (va_rf o :: st) h bc bs := by
  subst ho
  obtain ⟨u, e1, e2⟩ := xo_b_s hv
  obtain ⟨w, ci, fs, kf, q1, q2, q3⟩ := xh_f_s e1
  cases xv_g_s e2
  rcases xh_lk2 q2 with ⟨rfl, rfl⟩ | ⟨rfl, rfl⟩
  · exact xm_use hi0 ⟨_, _, _, q1, q3, k⟩
  · exact xm_use hi1 ⟨_, _, _, q1, q3, k⟩
theorem xw_gr2 {c0 k0 c1 k1 : Nat} {v : Option Nat} (hi0 : xm_Imp g Γ pc (xi_get c0 k0 n)) (hi1 : xm_Imp g Γ pc (xi_get c1 k1 n)) (ho : o = some a) (hv : xh_fr [(c0, k0), (c1, k1)] h a = some v) (k : xm_W g Γ n ls (va_rf v :: st) h bc bs) : xm_W g Γ pc ls (va_rf o :: st) h bc bs := by
  subst ho
  obtain ⟨u, e1, e2⟩ := xo_b_s hv
  obtain ⟨w, ci, fs, kf, q1, q2, q3⟩ := xh_f_s e1
  cases xv_r_s e2
  rcases xh_lk2 q2 with ⟨rfl, rfl⟩ | ⟨rfl, rfl⟩
  · exact xm_use hi0 ⟨_, _, _, q1, q3, k⟩
  · exact xm_use hi1 ⟨_, _, _, q1, q3, k⟩
theorem xw_pt2 {c0 k0 c1 k1 : Nat} {ty : FieldType} {v : Value} {h1 : xm_H} (hi0 : xm_Imp g Γ pc (xi_put c0 k0 ty n)) (hi1 : xm_Imp g Γ pc (xi_put c1 k1 ty n)) (ho : o = some a) (hn : narrow ty v = v ∧ fits ty v = true) (hv : xh_w [(c0, k0), (c1, k1)] h a v = some h1) (k : xm_W g Γ n ls st h1 bc bs) : xm_W g Γ pc ls (v :: va_rf o :: st) h bc bs := by
  subst ho
  obtain ⟨ci, fs, kf, q1, q2, q3⟩ := xh_w_s hv
  subst q3
  rcases xh_lk2 q2 with ⟨rfl, rfl⟩ | ⟨rfl, rfl⟩
  · exact xm_use hi0 ⟨_, q1, hn, k⟩
  · exact xm_use hi1 ⟨_, q1, hn, k⟩
theorem xh_lk3 {c0 k0 c1 k1 c2 k2 ci kf : Nat} (hc : List.lookup ci [(c0, k0), (c1, k1), (c2, k2)] = some kf) : (ci = c0 ∧ kf = k0) ∨ (ci = c1 ∧ kf = k1) ∨ (ci = c2 ∧ kf = k2) := by
  simpa using xh_lkm _ hc
theorem xw_gi3 {c0 k0 c1 k1 c2 k2 : Nat} {v : Int32} (hi0 : xm_Imp g Γ pc (xi_get c0 k0 n)) (hi1 : xm_Imp g Γ pc (xi_get c1 k1 n)) (hi2 : xm_Imp g Γ pc (xi_get c2 k2 n)) (ho : o = some a) (hv : xh_fi [(c0, k0), (c1, k1), (c2, k2)] h a = some v) (k : xm_W g Γ n ls (.int v :: st) h bc bs) : xm_W g Γ pc ls (va_rf o :: st) h bc bs := by
  subst ho
  obtain ⟨u, e1, e2⟩ := xo_b_s hv
  obtain ⟨w, ci, fs, kf, q1, q2, q3⟩ := xh_f_s e1
  cases xv_i_s e2
  rcases xh_lk3 q2 with ⟨rfl, rfl⟩ | ⟨rfl, rfl⟩ | ⟨rfl, rfl⟩
  · exact xm_use hi0 ⟨_, _, _, q1, q3, k⟩
  · exact xm_use hi1 ⟨_, _, _, q1, q3, k⟩
  · exact xm_use hi2 ⟨_, _, _, q1, q3, k⟩
theorem xw_gl3 {c0 k0 c1 k1 c2 k2 : Nat} {v : Int64} (hi0 : xm_Imp g Γ pc (xi_get c0 k0 n)) (hi1 : xm_Imp g Γ pc (xi_get c1 k1 n)) (hi2 : xm_Imp g Γ pc (xi_get c2 k2 n)) (ho : o = some a) (hv : xh_fl [(c0, k0), (c1, k1), (c2, k2)] h a = some v) (k : xm_W g Γ n ls (.long v :: st) h bc bs) : xm_W g Γ pc ls (va_rf o :: st) h bc bs := by
  subst ho
  obtain ⟨u, e1, e2⟩ := xo_b_s hv
  obtain ⟨w, ci, fs, kf, q1, q2, q3⟩ := xh_f_s e1
  cases xv_l_s e2
  rcases xh_lk3 q2 with ⟨rfl, rfl⟩ | ⟨rfl, rfl⟩ | ⟨rfl, rfl⟩
  · exact xm_use hi0 ⟨_, _, _, q1, q3, k⟩
  · exact xm_use hi1 ⟨_, _, _, q1, q3, k⟩
  · exact xm_use hi2 ⟨_, _, _, q1, q3, k⟩
theorem xw_gg3 {c0 k0 c1 k1 c2 k2 : Nat} {v : UInt32} (hi0 : xm_Imp g Γ pc (xi_get c0 k0 n)) (hi1 : xm_Imp g Γ pc (xi_get c1 k1 n)) (hi2 : xm_Imp g Γ pc (xi_get c2 k2 n)) (ho : o = some a) (hv : xh_fg [(c0, k0), (c1, k1), (c2, k2)] h a = some v) (k : xm_W g Γ n ls (.float v :: st) h bc bs) : xm_W g Γ pc ls (va_rf o :: st) h bc bs := by
  subst ho
  obtain ⟨u, e1, e2⟩ := xo_b_s hv
  obtain ⟨w, ci, fs, kf, q1, q2, q3⟩ := xh_f_s e1
  cases xv_g_s e2
  rcases xh_lk3 q2 with ⟨rfl, rfl⟩ | ⟨rfl, rfl⟩ | ⟨rfl, rfl⟩
  · exact xm_use hi0 ⟨_, _, _, q1, q3, k⟩
  · exact xm_use hi1 ⟨_, _, _, q1, q3, k⟩
  · exact xm_use hi2 ⟨_, _, _, q1, q3, k⟩
theorem xw_gr3 {c0 k0 c1 k1 c2 k2 : Nat} {v : Option Nat} (hi0 : xm_Imp g Γ pc (xi_get c0 k0 n)) (hi1 : xm_Imp g Γ pc (xi_get c1 k1 n)) (hi2 : xm_Imp g Γ pc (xi_get c2 k2 n)) (ho : o = some a) (hv : xh_fr [(c0, k0), (c1, k1), (c2, k2)] h a = some v) (k : xm_W g Γ n ls (va_rf v :: st) h bc bs) : xm_W g Γ pc ls (va_rf o :: st) h bc bs := by
  subst ho
  obtain ⟨u, e1, e2⟩ := xo_b_s hv
  obtain ⟨w, ci, fs, kf, q1, q2, q3⟩ := xh_f_s e1
  cases xv_r_s e2
  rcases xh_lk3 q2 with ⟨rfl, rfl⟩ | ⟨rfl, rfl⟩ | ⟨rfl, rfl⟩
  · exact xm_use hi0 ⟨_, _, _, q1, q3, k⟩
  · exact xm_use hi1 ⟨_, _, _, q1, q3, k⟩
  · exact xm_use hi2 ⟨_, _, _, q1, q3, k⟩
theorem xw_pt3 {c0 k0 c1 k1 c2 k2 : Nat} {ty : FieldType} {v : Value} {h1 : xm_H} (hi0 : xm_Imp g Γ pc (xi_put c0 k0 ty n)) (hi1 : xm_Imp g Γ pc (xi_put c1 k1 ty n)) (hi2 : xm_Imp g Γ pc (xi_put c2 k2 ty n)) (ho : o = some a) (hn : narrow ty v = v ∧ fits ty v = true) (hv : xh_w [(c0, k0), (c1, k1), (c2, k2)] h a v = some h1) (k : xm_W g Γ n ls st h1 bc bs) : xm_W g Γ pc ls (v :: va_rf o :: st) h bc bs := by
  subst ho
  obtain ⟨ci, fs, kf, q1, q2, q3⟩ := xh_w_s hv
  subst q3
  rcases xh_lk3 q2 with ⟨rfl, rfl⟩ | ⟨rfl, rfl⟩ | ⟨rfl, rfl⟩
  · exact xm_use hi0 ⟨_, q1, hn, k⟩
  · exact xm_use hi1 ⟨_, q1, hn, k⟩
  · exact xm_use hi2 ⟨_, q1, hn, k⟩
theorem xw_hial {i v : Int32} (hi : xm_Imp g Γ pc (xi_ial n)) (ho : o = some a) (hv : xh_ai .int h a i = some v) (k : xm_W g Γ n ls (.int v :: st) h bc bs) : xm_W g Γ pc ls (.int i :: va_rf o :: st) h bc bs := by
  subst ho
  unfold xh_ai at hv
  split at hv
  · next w t N f q =>
    split at hv
    · next c =>
      obtain ⟨j, e1, e2⟩ := xo_b_s hv
      obtain ⟨rfl, c2⟩ := c
      cases e2
      obtain ⟨e3, e4⟩ := xa_ix_s e1
      exact xm_use hi ⟨w, N, f, j, q, e3, ⟨e4, c2⟩, k⟩
    · cases hv
  · cases hv
theorem xw_hbal {i v : Int32} (hi : xm_Imp g Γ pc (xi_bal n)) (ho : o = some a) (hv : xh_ai .byte h a i = some v) (k : xm_W g Γ n ls (.int v :: st) h bc bs) : xm_W g Γ pc ls (.int i :: va_rf o :: st) h bc bs := by
  subst ho
  unfold xh_ai at hv
  split at hv
  · next w t N f q =>
    split at hv
    · next c =>
      obtain ⟨j, e1, e2⟩ := xo_b_s hv
      obtain ⟨rfl, c2⟩ := c
      cases e2
      obtain ⟨e3, e4⟩ := xa_ix_s e1
      exact xm_use hi ⟨w, N, f, j, q, e3, ⟨e4, c2⟩, k⟩
    · cases hv
  · cases hv
theorem xw_hzal {i v : Int32} (hi : xm_Imp g Γ pc (xi_zal n)) (ho : o = some a) (hv : xh_ai .boolean h a i = some v) (k : xm_W g Γ n ls (.int v :: st) h bc bs) : xm_W g Γ pc ls (.int i :: va_rf o :: st) h bc bs := by
  subst ho
  unfold xh_ai at hv
  split at hv
  · next w t N f q =>
    split at hv
    · next c =>
      obtain ⟨j, e1, e2⟩ := xo_b_s hv
      obtain ⟨rfl, c2⟩ := c
      cases e2
      obtain ⟨e3, e4⟩ := xa_ix_s e1
      exact xm_use hi ⟨w, N, f, j, q, e3, ⟨e4, c2⟩, k⟩
    · cases hv
  · cases hv
theorem xw_hcal {i v : Int32} (hi : xm_Imp g Γ pc (xi_cal n)) (ho : o = some a) (hv : xh_ai .char h a i = some v) (k : xm_W g Γ n ls (.int v :: st) h bc bs) : xm_W g Γ pc ls (.int i :: va_rf o :: st) h bc bs := by
  subst ho
  unfold xh_ai at hv
  split at hv
  · next w t N f q =>
    split at hv
    · next c =>
      obtain ⟨j, e1, e2⟩ := xo_b_s hv
      obtain ⟨rfl, c2⟩ := c
      cases e2
      obtain ⟨e3, e4⟩ := xa_ix_s e1
      exact xm_use hi ⟨w, N, f, j, q, e3, ⟨e4, c2⟩, k⟩
    · cases hv
  · cases hv
theorem xw_hsal {i v : Int32} (hi : xm_Imp g Γ pc (xi_sal n)) (ho : o = some a) (hv : xh_ai .short h a i = some v) (k : xm_W g Γ n ls (.int v :: st) h bc bs) : xm_W g Γ pc ls (.int i :: va_rf o :: st) h bc bs := by
  subst ho
  unfold xh_ai at hv
  split at hv
  · next w t N f q =>
    split at hv
    · next c =>
      obtain ⟨j, e1, e2⟩ := xo_b_s hv
      obtain ⟨rfl, c2⟩ := c
      cases e2
      obtain ⟨e3, e4⟩ := xa_ix_s e1
      exact xm_use hi ⟨w, N, f, j, q, e3, ⟨e4, c2⟩, k⟩
    · cases hv
  · cases hv
theorem xw_hias {i v : Int32} {h1 : xm_H} (hi : xm_Imp g Γ pc (xi_ias n)) (ho : o = some a) (hv : xh_si .int h a i (v) = some h1) (k : xm_W g Γ n ls st h1 bc bs) : xm_W g Γ pc ls (.int v :: .int i :: va_rf o :: st) h bc bs := by
  subst ho
  unfold xh_si at hv
  split at hv
  · next t N f q =>
    split at hv
    · next c =>
      obtain ⟨j, e1, e2⟩ := xo_b_s hv
      obtain ⟨rfl, c2⟩ := c
      cases e2
      obtain ⟨e3, e4⟩ := xa_ix_s e1
      exact xm_use hi ⟨N, f, j, q, e3, ⟨e4, c2⟩, k⟩
    · cases hv
  · cases hv
theorem xw_hbas {i v : Int32} {h1 : xm_H} (hi : xm_Imp g Γ pc (xi_bas n)) (ho : o = some a) (hv : xh_si .byte h a i (v.toInt8.toInt32) = some h1) (k : xm_W g Γ n ls st h1 bc bs) : xm_W g Γ pc ls (.int v :: .int i :: va_rf o :: st) h bc bs := by
  subst ho
  unfold xh_si at hv
  split at hv
  · next t N f q =>
    split at hv
    · next c =>
      obtain ⟨j, e1, e2⟩ := xo_b_s hv
      obtain ⟨rfl, c2⟩ := c
      cases e2
      obtain ⟨e3, e4⟩ := xa_ix_s e1
      exact xm_use hi ⟨N, f, j, q, e3, ⟨e4, c2⟩, k⟩
    · cases hv
  · cases hv
theorem xw_hzas {i v : Int32} {h1 : xm_H} (hi : xm_Imp g Γ pc (xi_zas n)) (ho : o = some a) (hn : narrow .boolean (.int v) = .int v) (hv : xh_si .boolean h a i (v) = some h1) (k : xm_W g Γ n ls st h1 bc bs) : xm_W g Γ pc ls (.int v :: .int i :: va_rf o :: st) h bc bs := by
  subst ho
  unfold xh_si at hv
  split at hv
  · next t N f q =>
    split at hv
    · next c =>
      obtain ⟨j, e1, e2⟩ := xo_b_s hv
      obtain ⟨rfl, c2⟩ := c
      cases e2
      obtain ⟨e3, e4⟩ := xa_ix_s e1
      exact xm_use hi ⟨N, f, j, q, e3, ⟨e4, c2⟩, hn, k⟩
    · cases hv
  · cases hv
theorem xw_hcas {i v : Int32} {h1 : xm_H} (hi : xm_Imp g Γ pc (xi_cas n)) (ho : o = some a) (hv : xh_si .char h a i ((v.toUInt32 % 65536).toInt32) = some h1) (k : xm_W g Γ n ls st h1 bc bs) : xm_W g Γ pc ls (.int v :: .int i :: va_rf o :: st) h bc bs := by
  subst ho
  unfold xh_si at hv
  split at hv
  · next t N f q =>
    split at hv
    · next c =>
      obtain ⟨j, e1, e2⟩ := xo_b_s hv
      obtain ⟨rfl, c2⟩ := c
      cases e2
      obtain ⟨e3, e4⟩ := xa_ix_s e1
      exact xm_use hi ⟨N, f, j, q, e3, ⟨e4, c2⟩, k⟩
    · cases hv
  · cases hv
theorem xw_hlal {i : Int32} {v : Int64} (hi : xm_Imp g Γ pc (xi_lal n)) (ho : o = some a) (hv : xh_al h a i = some v) (k : xm_W g Γ n ls (.long v :: st) h bc bs) : xm_W g Γ pc ls (.int i :: va_rf o :: st) h bc bs := by
  subst ho
  unfold xh_al at hv
  split at hv
  · next w N f q =>
    split at hv
    · next c =>
      obtain ⟨j, e1, e2⟩ := xo_b_s hv
      cases e2
      obtain ⟨e3, e4⟩ := xa_ix_s e1
      exact xm_use hi ⟨w, N, f, j, q, e3, ⟨e4, c⟩, k⟩
    · cases hv
  · cases hv
theorem xw_hdal {i : Int32} {v : UInt64} (hi : xm_Imp g Γ pc (xi_dal n)) (ho : o = some a) (hv : xh_ad h a i = some v) (k : xm_W g Γ n ls (.double v :: st) h bc bs) : xm_W g Γ pc ls (.int i :: va_rf o :: st) h bc bs := by
  subst ho
  unfold xh_ad at hv
  split at hv
  · next w N f q =>
    split at hv
    · next c =>
      obtain ⟨j, e1, e2⟩ := xo_b_s hv
      cases e2
      obtain ⟨e3, e4⟩ := xa_ix_s e1
      exact xm_use hi ⟨w, N, f, j, q, e3, ⟨e4, c⟩, k⟩
    · cases hv
  · cases hv
theorem xw_hlas {i : Int32} {v : Int64} {h1 : xm_H} (hi : xm_Imp g Γ pc (xi_las n)) (ho : o = some a) (hv : xh_sl h a i v = some h1) (k : xm_W g Γ n ls st h1 bc bs) : xm_W g Γ pc ls (.long v :: .int i :: va_rf o :: st) h bc bs := by
  subst ho
  unfold xh_sl at hv
  split at hv
  · next N f q =>
    split at hv
    · next c =>
      obtain ⟨j, e1, e2⟩ := xo_b_s hv
      cases e2
      obtain ⟨e3, e4⟩ := xa_ix_s e1
      exact xm_use hi ⟨N, f, j, q, e3, ⟨e4, c⟩, k⟩
    · cases hv
  · cases hv
theorem xw_hdas {i : Int32} {v : UInt64} {h1 : xm_H} (hi : xm_Imp g Γ pc (xi_das n)) (ho : o = some a) (hv : xh_sd h a i v = some h1) (k : xm_W g Γ n ls st h1 bc bs) : xm_W g Γ pc ls (.double v :: .int i :: va_rf o :: st) h bc bs := by
  subst ho
  unfold xh_sd at hv
  split at hv
  · next N f q =>
    split at hv
    · next c =>
      obtain ⟨j, e1, e2⟩ := xo_b_s hv
      cases e2
      obtain ⟨e3, e4⟩ := xa_ix_s e1
      exact xm_use hi ⟨N, f, j, q, e3, ⟨e4, c⟩, k⟩
    · cases hv
  · cases hv
theorem xw_haal {C : String} {i : Int32} {v : Option Nat} (hi : xm_Imp g Γ pc (xi_aal C n)) (ho : o = some a) (hv : xh_ar C h a i = some v) (k : xm_W g Γ n ls (va_rf v :: st) h bc bs) : xm_W g Γ pc ls (.int i :: va_rf o :: st) h bc bs := by
  subst ho
  unfold xh_ar at hv
  split at hv
  · next w t N f q =>
    split at hv
    · next c =>
      obtain ⟨j, e1, e2⟩ := xo_b_s hv
      obtain ⟨rfl, c2⟩ := c
      cases e2
      obtain ⟨e3, e4⟩ := xa_ix_s e1
      exact xm_use hi ⟨w, N, f, j, _, q, e3, ⟨e4, c2⟩, rfl, k⟩
    · cases hv
  · cases hv
theorem xw_haas {C : String} {i : Int32} {v : Option Nat} {h1 : xm_H} (hi : xm_Imp g Γ pc (xi_aas C n)) (ho : o = some a) (hv : xh_sr C h a i v = some h1) (k : xm_W g Γ n ls st h1 bc bs) : xm_W g Γ pc ls (va_rf v :: .int i :: va_rf o :: st) h bc bs := by
  subst ho
  unfold xh_sr at hv
  split at hv
  · next t N f q =>
    split at hv
    · next c =>
      obtain ⟨j, e1, e2⟩ := xo_b_s hv
      obtain ⟨rfl, c2⟩ := c
      obtain ⟨u, e5, e6⟩ := xo_b_s e2
      cases e6
      obtain ⟨e3, e4⟩ := xa_ix_s e1
      exact xm_use hi ⟨N, f, j, v, q, e3, ⟨e4, c2⟩, rfl, xo_g_s e5, k⟩
    · cases hv
  · cases hv
theorem xw_hlen {v : Int32} (hi : xm_Imp g Γ pc (xi_len n)) (ho : o = some a) (hv : xh_len h a = some v) (k : xm_W g Γ n ls (.int v :: st) h bc bs) : xm_W g Γ pc ls (va_rf o :: st) h bc bs := by
  subst ho
  unfold xh_len at hv
  split at hv
  · next w t A q =>
    cases hv
    exact xm_use hi ⟨w, t, A, q, k⟩
  · cases hv
theorem xw_new {ci N : Nat} {fs : List Value} {K : Nat → xm_H → Nat → Nat → Prop} (hi : xm_Imp g Γ pc (xi_new ci N fs n)) (e : xt_new h bc bs N (.inr (ci, fs)) K) (k : ∀ (a : Nat) (h1 : xm_H) (b1 b2 : Nat), K a h1 b1 b2 → xm_W g Γ n ls (.ref a :: st) h1 b1 b2) : xm_W g Γ pc ls st h bc bs := xm_use hi ⟨e.1, fun a ha => k a _ _ _ (e.2 a ha)⟩
theorem xw_nra {C : String} {N : Nat} {x : Int32} {K : Nat → xm_H → Nat → Nat → Prop} (hi : xm_Imp g Γ pc (xi_nra C n)) (hN : xa_nat x = some N) (e : xt_new h bc bs N (.inl (.object C, N, .inr (.inr (.inr (.inr (fun _ => none)))))) K) (k : ∀ (a : Nat) (h1 : xm_H) (b1 b2 : Nat), K a h1 b1 b2 → xm_W g Γ n ls (.ref a :: st) h1 b1 b2) : xm_W g Γ pc ls (.int x :: st) h bc bs := xm_use hi ⟨N, (xa_nat_s hN).1, (xa_nat_s hN).2, e.1, fun a ha => k a _ _ _ (e.2 a ha)⟩
theorem xw_neai {ty : FieldType} {N : Nat} {x : Int32} {K : Nat → xm_H → Nat → Nat → Prop} (hi : xm_Imp g Γ pc (xi_nea ty xm_zi n)) (hN : xa_nat x = some N) (e : xt_new h bc bs N (.inl (ty, N, .inl (fun _ => 0))) K) (k : ∀ (a : Nat) (h1 : xm_H) (b1 b2 : Nat), K a h1 b1 b2 → xm_W g Γ n ls (.ref a :: st) h1 b1 b2) : xm_W g Γ pc ls (.int x :: st) h bc bs := xm_use hi ⟨N, (N, .inl (fun _ => 0)), (xa_nat_s hN).1, ⟨(xa_nat_s hN).2, rfl, rfl⟩, e.1, fun a ha => k a _ _ _ (e.2 a ha)⟩
theorem xw_neal {ty : FieldType} {N : Nat} {x : Int32} {K : Nat → xm_H → Nat → Nat → Prop} (hi : xm_Imp g Γ pc (xi_nea ty xm_zl n)) (hN : xa_nat x = some N) (e : xt_new h bc bs N (.inl (ty, N, .inr (.inl (fun _ => 0)))) K) (k : ∀ (a : Nat) (h1 : xm_H) (b1 b2 : Nat), K a h1 b1 b2 → xm_W g Γ n ls (.ref a :: st) h1 b1 b2) : xm_W g Γ pc ls (.int x :: st) h bc bs := xm_use hi ⟨N, (N, .inr (.inl (fun _ => 0))), (xa_nat_s hN).1, ⟨(xa_nat_s hN).2, rfl, rfl⟩, e.1, fun a ha => k a _ _ _ (e.2 a ha)⟩
theorem xw_nead {ty : FieldType} {N : Nat} {x : Int32} {K : Nat → xm_H → Nat → Nat → Prop} (hi : xm_Imp g Γ pc (xi_nea ty xm_zd n)) (hN : xa_nat x = some N) (e : xt_new h bc bs N (.inl (ty, N, .inr (.inr (.inr (.inl (fun _ => 0)))))) K) (k : ∀ (a : Nat) (h1 : xm_H) (b1 b2 : Nat), K a h1 b1 b2 → xm_W g Γ n ls (.ref a :: st) h1 b1 b2) : xm_W g Γ pc ls (.int x :: st) h bc bs := xm_use hi ⟨N, (N, .inr (.inr (.inr (.inl (fun _ => 0))))), (xa_nat_s hN).1, ⟨(xa_nat_s hN).2, rfl, rfl⟩, e.1, fun a ha => k a _ _ _ (e.2 a ha)⟩
theorem xw_obj (hi : xm_Imp g Γ pc (xi_obj n)) (ho : o = some a) (hs : xm_stk 1 (va_rf o :: st) = true) (k : xm_W g Γ n ls st h bc bs) : xm_W g Γ pc ls (va_rf o :: st) h bc bs := by
  subst ho
  exact xm_use hi ⟨hs, k⟩
theorem xw_cast {T : String} {u : Unit} (hi : xm_Imp g Γ pc (xi_cast T n)) (hv : xh_cast T h o = some u) (k : xm_W g Γ n ls (va_rf o :: st) h bc bs) : xm_W g Γ pc ls (va_rf o :: st) h bc bs := by
  refine xm_use hi ?_
  cases o with
  | none => exact k
  | some a =>
    obtain ⟨w, x, C, q1, q2, q3⟩ := xo_g_s hv a rfl
    exact ⟨w, x, C, q1, q2, q3, k⟩
theorem xw_castY {T : String} {u : Unit} (hi : xm_Imp g Γ pc (xi_castY T n)) (hv : xh_castY T h o = some u) (k : xm_W g Γ n ls (va_rf o :: st) h bc bs) : xm_W g Γ pc ls (va_rf o :: st) h bc bs := by
  refine xm_use hi ?_
  cases o with
  | none => exact k
  | some a =>
    obtain ⟨w, x, C, q1, q2, q3⟩ := xo_g_s hv a rfl
    exact ⟨w, x, C, q1, q2, q3, k⟩
theorem xw_castA {ty : FieldType} {u : Unit} (hi : xm_Imp g Γ pc (xi_castA ty n)) (hv : xh_castA ty h o = some u) (k : xm_W g Γ n ls (va_rf o :: st) h bc bs) : xm_W g Γ pc ls (va_rf o :: st) h bc bs := by
  refine xm_use hi ?_
  cases o with
  | none => exact k
  | some a =>
    obtain ⟨w, A, q1⟩ := xo_g_s hv a rfl
    exact ⟨w, A, q1, k⟩
theorem xw_inst {T : String} {v : Int32} (hi : xm_Imp g Γ pc (xi_inst T n)) (hv : xh_inst T h o = some v) (k : xm_W g Γ n ls (.int v :: st) h bc bs) : xm_W g Γ pc ls (va_rf o :: st) h bc bs := by
  unfold xh_inst at hv
  refine xm_use hi ?_
  split at hv
  · next c =>
    obtain ⟨a, w, x, rfl, q1, q2⟩ := c
    cases hv
    exact ⟨w, x, T, q1, q2, Or.inl ⟨rfl, k⟩⟩
  · split at hv
    · next c =>
      cases hv
      cases o with
      | none => exact k
      | some a =>
        obtain ⟨w, x, C, q1, q2, q3⟩ := c a rfl
        exact ⟨w, x, C, q1, q2, Or.inr ⟨q3, k⟩⟩
    · cases hv
theorem xw_gcl {ty : FieldType} {mi : Nat} {u : Unit} (hi : xm_Imp g Γ pc (xi_gcl ty mi n)) (ho : o = some a) (hs : xm_stk 0 (va_rf o :: st) = true) (hv : xh_castA ty h (some a) = some u) (k : xm_W g Γ n ls (.ref mi :: st) h bc bs) : xm_W g Γ pc ls (va_rf o :: st) h bc bs := by
  subst ho
  obtain ⟨w, A, q1⟩ := xo_g_s hv a rfl
  exact xm_use hi ⟨w, A, q1, hs, k⟩
theorem xw_cln {f : Nat × (Nat → Int32)} {K : Nat → xm_H → Nat → Nat → Prop} (hi : xm_Imp g Γ pc (xi_cln n)) (ho : o = some a) (hs : xm_stk 0 (va_rf o :: st) = true) (hv : xh_bytes h a = some f) (e : xt_new h bc bs f.1 (.inl (.byte, f.1, .inl f.2)) K) (k : ∀ (a : Nat) (h1 : xm_H) (b1 b2 : Nat), K a h1 b1 b2 → xm_W g Γ n ls (.ref a :: st) h1 b1 b2) : xm_W g Γ pc ls (va_rf o :: st) h bc bs := by
  subst ho
  unfold xh_bytes at hv
  split at hv
  · next t N f0 q =>
    obtain ⟨u, e1, e2⟩ := xo_b_s hv
    obtain ⟨rfl, e3⟩ := xo_g_s e1
    cases e2
    exact xm_use hi ⟨N, f0, q, e3, hs, e.1, fun a ha => k a _ _ _ (e.2 a ha)⟩
  · cases hv
theorem xw_cpi {ty : FieldType} {o1 : Option Nat} {a1 : Nat} {sp dp l0 : Int32} {h1 : xm_H} (hi : xm_Imp g Γ pc (xi_cpi ty n)) (ho : o = some a) (ho1 : o1 = some a1) (hs : xm_stk 0 st = true) (hv : xh_cpi ty h a sp a1 dp l0 = some h1) (k : xm_W g Γ n ls st h1 bc bs) : xm_W g Γ pc ls (.int l0 :: .int dp :: va_rf o1 :: .int sp :: va_rf o :: st) h bc bs := by
  subst ho ho1
  unfold xh_cpi at hv
  split at hv
  · next w t0 n0 f t1 n1 f' q0 q1 =>
    obtain ⟨u, e1, e2⟩ := xo_b_s hv
    obtain ⟨rfl, rfl, r1, r2⟩ := xo_g_s e1
    obtain ⟨s, e3, e4⟩ := xo_b_s e2
    obtain ⟨d, e5, e6⟩ := xo_b_s e4
    obtain ⟨m, e7, e8⟩ := xo_b_s e6
    obtain ⟨u2, e9, e10⟩ := xo_b_s e8
    obtain ⟨c1, c2, c3⟩ := xo_g_s e9
    cases e10
    exact xm_use hi ⟨w, n0, n1, f, f', s, d, m, q0, q1, ⟨(xa_ix_s e3).1, (xa_ix_s e5).1, (xa_ix_s e7).1⟩, ⟨c1, c2, r1, r2⟩, c3, by have := xm_stk_of hs; simpa [xm_stk] using this, k⟩
  · cases hv
theorem xw_cpq {C : String} {o1 : Option Nat} {a1 : Nat} {sp dp l0 : Int32} {h1 : xm_H} (hi : xm_Imp g Γ pc (xi_cpq C n)) (ho : o = some a) (ho1 : o1 = some a1) (hs : xm_stk 0 st = true) (hv : xh_cpq C h a sp a1 dp l0 = some h1) (k : xm_W g Γ n ls st h1 bc bs) : xm_W g Γ pc ls (.int l0 :: .int dp :: va_rf o1 :: .int sp :: va_rf o :: st) h bc bs := by
  subst ho ho1
  unfold xh_cpq at hv
  split at hv
  · next w t0 n0 f t1 n1 f' q0 q1 =>
    obtain ⟨u, e1, e2⟩ := xo_b_s hv
    obtain ⟨rfl, rfl, r1, r2⟩ := xo_g_s e1
    obtain ⟨s, e3, e4⟩ := xo_b_s e2
    obtain ⟨d, e5, e6⟩ := xo_b_s e4
    obtain ⟨m, e7, e8⟩ := xo_b_s e6
    obtain ⟨u2, e9, e10⟩ := xo_b_s e8
    obtain ⟨c1, c2, c3⟩ := xo_g_s e9
    cases e10
    exact xm_use hi ⟨w, n0, n1, f, f', s, d, m, q0, q1, ⟨(xa_ix_s e3).1, (xa_ix_s e5).1, (xa_ix_s e7).1⟩, ⟨c1, c2, r1, r2⟩, c3, by have := xm_stk_of hs; simpa [xm_stk] using this, k⟩
  · cases hv
theorem xw_athr {ci : Nat} {E : String} {X : xm_X} {u : Unit} (hi : xm_Imp g Γ pc (xi_athr ci E X)) (hv : xh_is ci h a = some u) (hw : ∀ w x, h a = some (w, x) → w = true) (k : X E a h) : xm_W g Γ pc ls (.ref a :: st) h bc bs := by
  obtain ⟨w, fs, q⟩ := xh_is_s hv
  obtain rfl := hw _ _ q
  exact xm_use hi ⟨fs, q, k⟩
theorem xw_thr0 {cls : String} {X : xm_X} (hi : xm_Imp g Γ pc (xi_thr0 cls X)) (hs : xm_stk 0 st = true) (e : (1 ≤ bc ∧ 6 ≤ bs) ∧ ∀ q : Nat, X cls q h) : xm_W g Γ pc ls st h bc bs := xm_use hi ⟨e.1, hs, e.2⟩
theorem xw_hv0 {ci : Nat} {M' : xm_M} {d' : Nat} {h' : xm_H} {r : Value} {u : Unit} (hi : xm_Imp g Γ pc (xi_vir g ci M' d' 0 n)) (hs : xm_stk 0 (va_rf o :: st) = true) (ho : o = some a) (hc : xh_is ci h a = some u) (hr : ∀ (Q : xm_P) (X : xm_X), Q (some r) h' → xm_Run g M' d' [.ref a] h 0 0 Q X) (k : xm_W g Γ n ls (r :: st) h' bc bs) : xm_W g Γ pc ls (va_rf o :: st) h bc bs := by
  subst ho
  obtain ⟨w, fs, q⟩ := xh_is_s hc
  exact xm_use hi ⟨hs, w, fs, 0, 0, q, ⟨Nat.zero_le _, Nat.zero_le _⟩, hr _ _ k⟩
theorem xw_pv0 {M' : xm_M} {d' : Nat} {h' : xm_H} {r : Value} (hi : xm_Imp g Γ pc (xi_spe g M' d' 0 n)) (hs : xm_stk 0 (va_rf o :: st) = true) (ho : o = some a) (hr : ∀ (Q : xm_P) (X : xm_X), Q (some r) h' → xm_Run g M' d' [.ref a] h 0 0 Q X) (k : xm_W g Γ n ls (r :: st) h' bc bs) : xm_W g Γ pc ls (va_rf o :: st) h bc bs := by
  subst ho
  exact xm_use hi ⟨hs, 0, 0, ⟨Nat.zero_le _, Nat.zero_le _⟩, hr _ _ k⟩
theorem xw_hu0 {ci : Nat} {M' : xm_M} {d' : Nat} {h' : xm_H} {u : Unit} (hi : xm_Imp g Γ pc (xi_vir g ci M' d' 0 n)) (hs : xm_stk 0 (va_rf o :: st) = true) (ho : o = some a) (hc : xh_is ci h a = some u) (hr : ∀ (Q : xm_P) (X : xm_X), Q (none) h' → xm_Run g M' d' [.ref a] h 0 0 Q X) (k : xm_W g Γ n ls (st) h' bc bs) : xm_W g Γ pc ls (va_rf o :: st) h bc bs := by
  subst ho
  obtain ⟨w, fs, q⟩ := xh_is_s hc
  exact xm_use hi ⟨hs, w, fs, 0, 0, q, ⟨Nat.zero_le _, Nat.zero_le _⟩, hr _ _ k⟩
theorem xw_pu0 {M' : xm_M} {d' : Nat} {h' : xm_H} (hi : xm_Imp g Γ pc (xi_spe g M' d' 0 n)) (hs : xm_stk 0 (va_rf o :: st) = true) (ho : o = some a) (hr : ∀ (Q : xm_P) (X : xm_X), Q (none) h' → xm_Run g M' d' [.ref a] h 0 0 Q X) (k : xm_W g Γ n ls (st) h' bc bs) : xm_W g Γ pc ls (va_rf o :: st) h bc bs := by
  subst ho
  exact xm_use hi ⟨hs, 0, 0, ⟨Nat.zero_le _, Nat.zero_le _⟩, hr _ _ k⟩
theorem xw_tsi0 {M' : xm_M} {d' mc ms : Nat} {Qf : Int32 → xm_H → Prop} (hi : xm_Imp g Γ pc (xi_inv g M' d' 0 n)) (hs : xm_stk 0 (st) = true) (h1 : mc ≤ bc) (h2 : ms ≤ bs) (hr : xm_Run g M' d' [] h mc ms (fun v h' => ∃ r, v = some (.int r) ∧ Qf r h') xm_no) (k : ∀ r h', Qf r h' → xm_W g Γ n ls (.int r :: st) h' (bc - mc) (bs - ms)) : xm_W g Γ pc ls (st) h bc bs := by
  refine xm_use hi ⟨hs, mc, ms, ⟨h1, h2⟩, ?_⟩
  exact xm_Run.mono hr (fun v h' q => by
    obtain ⟨r, rfl, q⟩ := q
    exact k r h' q) (fun E q h' x => x)
theorem xw_tvi0 {ci : Nat} {M' : xm_M} {d' mc ms : Nat} {Qf : Int32 → xm_H → Prop} {u : Unit} (hi : xm_Imp g Γ pc (xi_vir g ci M' d' 0 n)) (hs : xm_stk 0 (va_rf o :: st) = true) (ho : o = some a) (hc : xh_is ci h a = some u) (h1 : mc ≤ bc) (h2 : ms ≤ bs) (hr : xm_Run g M' d' [.ref a] h mc ms (fun v h' => ∃ r, v = some (.int r) ∧ Qf r h') xm_no) (k : ∀ r h', Qf r h' → xm_W g Γ n ls (.int r :: st) h' (bc - mc) (bs - ms)) : xm_W g Γ pc ls (va_rf o :: st) h bc bs := by
  subst ho
  obtain ⟨w, fs, q⟩ := xh_is_s hc
  refine xm_use hi ⟨hs, w, fs, mc, ms, q, ⟨h1, h2⟩, ?_⟩
  exact xm_Run.mono hr (fun v h' q => by
    obtain ⟨r, rfl, q⟩ := q
    exact k r h' q) (fun E q h' x => x)
theorem xw_tXsi0 {M' : xm_M} {d' mc ms : Nat} {X : xm_X} {Qf : Int32 → xm_H → Prop} (hi : xm_Imp g Γ pc (xi_invX g M' d' 0 n X)) (hs : xm_stk 0 (st) = true) (h1 : mc ≤ bc) (h2 : ms ≤ bs) (hr : xm_Run g M' d' [] h mc ms (fun v h' => ∃ r, v = some (.int r) ∧ Qf r h') X) (k : ∀ r h', Qf r h' → xm_W g Γ n ls (.int r :: st) h' (bc - mc) (bs - ms)) : xm_W g Γ pc ls (st) h bc bs := by
  refine xm_use hi ⟨hs, mc, ms, ⟨h1, h2⟩, ?_⟩
  exact xm_Run.mono hr (fun v h' q => by
    obtain ⟨r, rfl, q⟩ := q
    exact k r h' q) (fun E q h' x => x)
theorem xw_tXvi0 {ci : Nat} {M' : xm_M} {d' mc ms : Nat} {X : xm_X} {Qf : Int32 → xm_H → Prop} {u : Unit} (hi : xm_Imp g Γ pc (xi_virX g ci M' d' 0 n X)) (hs : xm_stk 0 (va_rf o :: st) = true) (ho : o = some a) (hc : xh_is ci h a = some u) (h1 : mc ≤ bc) (h2 : ms ≤ bs) (hr : xm_Run g M' d' [.ref a] h mc ms (fun v h' => ∃ r, v = some (.int r) ∧ Qf r h') X) (k : ∀ r h', Qf r h' → xm_W g Γ n ls (.int r :: st) h' (bc - mc) (bs - ms)) : xm_W g Γ pc ls (va_rf o :: st) h bc bs := by
  subst ho
  obtain ⟨w, fs, q⟩ := xh_is_s hc
  refine xm_use hi ⟨hs, w, fs, mc, ms, q, ⟨h1, h2⟩, ?_⟩
  exact xm_Run.mono hr (fun v h' q => by
    obtain ⟨r, rfl, q⟩ := q
    exact k r h' q) (fun E q h' x => x)
theorem xw_tHvi0 {ci : Nat} {M' : xm_M} {d' mc ms : Nat} {XH : xm_X} {hs0 : List (String × Nat)} {Qf : Int32 → xm_H → Prop} {u : Unit} (hi : xm_Imp g Γ pc (xi_virH g ci M' d' 0 n hs0)) (hs : xm_stk 0 (va_rf o :: st) = true) (ho : o = some a) (hc : xh_is ci h a = some u) (h1 : mc ≤ bc) (h2 : ms ≤ bs) (hr : xm_Run g M' d' [.ref a] h mc ms (fun v h' => ∃ r, v = some (.int r) ∧ Qf r h') XH) (k : ∀ r h', Qf r h' → xm_W g Γ n ls (.int r :: st) h' (bc - mc) (bs - ms)) (kx : ∀ E q h', XH E q h' → xm_hnd hs0 E (fun t => xm_W g Γ t ls [.ref q] h' (bc - mc) (bs - ms))) : xm_W g Γ pc ls (va_rf o :: st) h bc bs := by
  subst ho
  obtain ⟨w, fs, q⟩ := xh_is_s hc
  refine xm_use hi ⟨hs, w, fs, mc, ms, q, ⟨h1, h2⟩, ?_⟩
  exact xm_Run.mono hr (fun v h' q => by
    obtain ⟨r, rfl, q⟩ := q
    exact k r h' q) kx
theorem xw_tpi0 {M' : xm_M} {d' mc ms : Nat} {Qf : Int32 → xm_H → Prop} (hi : xm_Imp g Γ pc (xi_spe g M' d' 0 n)) (hs : xm_stk 0 (va_rf o :: st) = true) (ho : o = some a) (h1 : mc ≤ bc) (h2 : ms ≤ bs) (hr : xm_Run g M' d' [.ref a] h mc ms (fun v h' => ∃ r, v = some (.int r) ∧ Qf r h') xm_no) (k : ∀ r h', Qf r h' → xm_W g Γ n ls (.int r :: st) h' (bc - mc) (bs - ms)) : xm_W g Γ pc ls (va_rf o :: st) h bc bs := by
  subst ho
  refine xm_use hi ⟨hs, mc, ms, ⟨h1, h2⟩, ?_⟩
  exact xm_Run.mono hr (fun v h' q => by
    obtain ⟨r, rfl, q⟩ := q
    exact k r h' q) (fun E q h' x => x)
theorem xw_tsl0 {M' : xm_M} {d' mc ms : Nat} {Qf : Int64 → xm_H → Prop} (hi : xm_Imp g Γ pc (xi_inv g M' d' 0 n)) (hs : xm_stk 0 (st) = true) (h1 : mc ≤ bc) (h2 : ms ≤ bs) (hr : xm_Run g M' d' [] h mc ms (fun v h' => ∃ r, v = some (.long r) ∧ Qf r h') xm_no) (k : ∀ r h', Qf r h' → xm_W g Γ n ls (.long r :: st) h' (bc - mc) (bs - ms)) : xm_W g Γ pc ls (st) h bc bs := by
  refine xm_use hi ⟨hs, mc, ms, ⟨h1, h2⟩, ?_⟩
  exact xm_Run.mono hr (fun v h' q => by
    obtain ⟨r, rfl, q⟩ := q
    exact k r h' q) (fun E q h' x => x)
theorem xw_tvl0 {ci : Nat} {M' : xm_M} {d' mc ms : Nat} {Qf : Int64 → xm_H → Prop} {u : Unit} (hi : xm_Imp g Γ pc (xi_vir g ci M' d' 0 n)) (hs : xm_stk 0 (va_rf o :: st) = true) (ho : o = some a) (hc : xh_is ci h a = some u) (h1 : mc ≤ bc) (h2 : ms ≤ bs) (hr : xm_Run g M' d' [.ref a] h mc ms (fun v h' => ∃ r, v = some (.long r) ∧ Qf r h') xm_no) (k : ∀ r h', Qf r h' → xm_W g Γ n ls (.long r :: st) h' (bc - mc) (bs - ms)) : xm_W g Γ pc ls (va_rf o :: st) h bc bs := by
  subst ho
  obtain ⟨w, fs, q⟩ := xh_is_s hc
  refine xm_use hi ⟨hs, w, fs, mc, ms, q, ⟨h1, h2⟩, ?_⟩
  exact xm_Run.mono hr (fun v h' q => by
    obtain ⟨r, rfl, q⟩ := q
    exact k r h' q) (fun E q h' x => x)
theorem xw_tXsl0 {M' : xm_M} {d' mc ms : Nat} {X : xm_X} {Qf : Int64 → xm_H → Prop} (hi : xm_Imp g Γ pc (xi_invX g M' d' 0 n X)) (hs : xm_stk 0 (st) = true) (h1 : mc ≤ bc) (h2 : ms ≤ bs) (hr : xm_Run g M' d' [] h mc ms (fun v h' => ∃ r, v = some (.long r) ∧ Qf r h') X) (k : ∀ r h', Qf r h' → xm_W g Γ n ls (.long r :: st) h' (bc - mc) (bs - ms)) : xm_W g Γ pc ls (st) h bc bs := by
  refine xm_use hi ⟨hs, mc, ms, ⟨h1, h2⟩, ?_⟩
  exact xm_Run.mono hr (fun v h' q => by
    obtain ⟨r, rfl, q⟩ := q
    exact k r h' q) (fun E q h' x => x)
theorem xw_tXvl0 {ci : Nat} {M' : xm_M} {d' mc ms : Nat} {X : xm_X} {Qf : Int64 → xm_H → Prop} {u : Unit} (hi : xm_Imp g Γ pc (xi_virX g ci M' d' 0 n X)) (hs : xm_stk 0 (va_rf o :: st) = true) (ho : o = some a) (hc : xh_is ci h a = some u) (h1 : mc ≤ bc) (h2 : ms ≤ bs) (hr : xm_Run g M' d' [.ref a] h mc ms (fun v h' => ∃ r, v = some (.long r) ∧ Qf r h') X) (k : ∀ r h', Qf r h' → xm_W g Γ n ls (.long r :: st) h' (bc - mc) (bs - ms)) : xm_W g Γ pc ls (va_rf o :: st) h bc bs := by
  subst ho
  obtain ⟨w, fs, q⟩ := xh_is_s hc
  refine xm_use hi ⟨hs, w, fs, mc, ms, q, ⟨h1, h2⟩, ?_⟩
  exact xm_Run.mono hr (fun v h' q => by
    obtain ⟨r, rfl, q⟩ := q
    exact k r h' q) (fun E q h' x => x)
theorem xw_tHvl0 {ci : Nat} {M' : xm_M} {d' mc ms : Nat} {XH : xm_X} {hs0 : List (String × Nat)} {Qf : Int64 → xm_H → Prop} {u : Unit} (hi : xm_Imp g Γ pc (xi_virH g ci M' d' 0 n hs0)) (hs : xm_stk 0 (va_rf o :: st) = true) (ho : o = some a) (hc : xh_is ci h a = some u) (h1 : mc ≤ bc) (h2 : ms ≤ bs) (hr : xm_Run g M' d' [.ref a] h mc ms (fun v h' => ∃ r, v = some (.long r) ∧ Qf r h') XH) (k : ∀ r h', Qf r h' → xm_W g Γ n ls (.long r :: st) h' (bc - mc) (bs - ms)) (kx : ∀ E q h', XH E q h' → xm_hnd hs0 E (fun t => xm_W g Γ t ls [.ref q] h' (bc - mc) (bs - ms))) : xm_W g Γ pc ls (va_rf o :: st) h bc bs := by
  subst ho
  obtain ⟨w, fs, q⟩ := xh_is_s hc
  refine xm_use hi ⟨hs, w, fs, mc, ms, q, ⟨h1, h2⟩, ?_⟩
  exact xm_Run.mono hr (fun v h' q => by
    obtain ⟨r, rfl, q⟩ := q
    exact k r h' q) kx
theorem xw_tpl0 {M' : xm_M} {d' mc ms : Nat} {Qf : Int64 → xm_H → Prop} (hi : xm_Imp g Γ pc (xi_spe g M' d' 0 n)) (hs : xm_stk 0 (va_rf o :: st) = true) (ho : o = some a) (h1 : mc ≤ bc) (h2 : ms ≤ bs) (hr : xm_Run g M' d' [.ref a] h mc ms (fun v h' => ∃ r, v = some (.long r) ∧ Qf r h') xm_no) (k : ∀ r h', Qf r h' → xm_W g Γ n ls (.long r :: st) h' (bc - mc) (bs - ms)) : xm_W g Γ pc ls (va_rf o :: st) h bc bs := by
  subst ho
  refine xm_use hi ⟨hs, mc, ms, ⟨h1, h2⟩, ?_⟩
  exact xm_Run.mono hr (fun v h' q => by
    obtain ⟨r, rfl, q⟩ := q
    exact k r h' q) (fun E q h' x => x)
theorem xw_tsf0 {M' : xm_M} {d' mc ms : Nat} {Qf : UInt32 → xm_H → Prop} (hi : xm_Imp g Γ pc (xi_inv g M' d' 0 n)) (hs : xm_stk 0 (st) = true) (h1 : mc ≤ bc) (h2 : ms ≤ bs) (hr : xm_Run g M' d' [] h mc ms (fun v h' => ∃ r, v = some (.float r) ∧ Qf r h') xm_no) (k : ∀ r h', Qf r h' → xm_W g Γ n ls (.float r :: st) h' (bc - mc) (bs - ms)) : xm_W g Γ pc ls (st) h bc bs := by
  refine xm_use hi ⟨hs, mc, ms, ⟨h1, h2⟩, ?_⟩
  exact xm_Run.mono hr (fun v h' q => by
    obtain ⟨r, rfl, q⟩ := q
    exact k r h' q) (fun E q h' x => x)
theorem xw_tvf0 {ci : Nat} {M' : xm_M} {d' mc ms : Nat} {Qf : UInt32 → xm_H → Prop} {u : Unit} (hi : xm_Imp g Γ pc (xi_vir g ci M' d' 0 n)) (hs : xm_stk 0 (va_rf o :: st) = true) (ho : o = some a) (hc : xh_is ci h a = some u) (h1 : mc ≤ bc) (h2 : ms ≤ bs) (hr : xm_Run g M' d' [.ref a] h mc ms (fun v h' => ∃ r, v = some (.float r) ∧ Qf r h') xm_no) (k : ∀ r h', Qf r h' → xm_W g Γ n ls (.float r :: st) h' (bc - mc) (bs - ms)) : xm_W g Γ pc ls (va_rf o :: st) h bc bs := by
  subst ho
  obtain ⟨w, fs, q⟩ := xh_is_s hc
  refine xm_use hi ⟨hs, w, fs, mc, ms, q, ⟨h1, h2⟩, ?_⟩
  exact xm_Run.mono hr (fun v h' q => by
    obtain ⟨r, rfl, q⟩ := q
    exact k r h' q) (fun E q h' x => x)
theorem xw_tXsf0 {M' : xm_M} {d' mc ms : Nat} {X : xm_X} {Qf : UInt32 → xm_H → Prop} (hi : xm_Imp g Γ pc (xi_invX g M' d' 0 n X)) (hs : xm_stk 0 (st) = true) (h1 : mc ≤ bc) (h2 : ms ≤ bs) (hr : xm_Run g M' d' [] h mc ms (fun v h' => ∃ r, v = some (.float r) ∧ Qf r h') X) (k : ∀ r h', Qf r h' → xm_W g Γ n ls (.float r :: st) h' (bc - mc) (bs - ms)) : xm_W g Γ pc ls (st) h bc bs := by
  refine xm_use hi ⟨hs, mc, ms, ⟨h1, h2⟩, ?_⟩
  exact xm_Run.mono hr (fun v h' q => by
    obtain ⟨r, rfl, q⟩ := q
    exact k r h' q) (fun E q h' x => x)
theorem xw_tXvf0 {ci : Nat} {M' : xm_M} {d' mc ms : Nat} {X : xm_X} {Qf : UInt32 → xm_H → Prop} {u : Unit} (hi : xm_Imp g Γ pc (xi_virX g ci M' d' 0 n X)) (hs : xm_stk 0 (va_rf o :: st) = true) (ho : o = some a) (hc : xh_is ci h a = some u) (h1 : mc ≤ bc) (h2 : ms ≤ bs) (hr : xm_Run g M' d' [.ref a] h mc ms (fun v h' => ∃ r, v = some (.float r) ∧ Qf r h') X) (k : ∀ r h', Qf r h' → xm_W g Γ n ls (.float r :: st) h' (bc - mc) (bs - ms)) : xm_W g Γ pc ls (va_rf o :: st) h bc bs := by
  subst ho
  obtain ⟨w, fs, q⟩ := xh_is_s hc
  refine xm_use hi ⟨hs, w, fs, mc, ms, q, ⟨h1, h2⟩, ?_⟩
  exact xm_Run.mono hr (fun v h' q => by
    obtain ⟨r, rfl, q⟩ := q
    exact k r h' q) (fun E q h' x => x)
theorem xw_tHvf0 {ci : Nat} {M' : xm_M} {d' mc ms : Nat} {XH : xm_X} {hs0 : List (String × Nat)} {Qf : UInt32 → xm_H → Prop} {u : Unit} (hi : xm_Imp g Γ pc (xi_virH g ci M' d' 0 n hs0)) (hs : xm_stk 0 (va_rf o :: st) = true) (ho : o = some a) (hc : xh_is ci h a = some u) (h1 : mc ≤ bc) (h2 : ms ≤ bs) (hr : xm_Run g M' d' [.ref a] h mc ms (fun v h' => ∃ r, v = some (.float r) ∧ Qf r h') XH) (k : ∀ r h', Qf r h' → xm_W g Γ n ls (.float r :: st) h' (bc - mc) (bs - ms)) (kx : ∀ E q h', XH E q h' → xm_hnd hs0 E (fun t => xm_W g Γ t ls [.ref q] h' (bc - mc) (bs - ms))) : xm_W g Γ pc ls (va_rf o :: st) h bc bs := by
  subst ho
  obtain ⟨w, fs, q⟩ := xh_is_s hc
  refine xm_use hi ⟨hs, w, fs, mc, ms, q, ⟨h1, h2⟩, ?_⟩
  exact xm_Run.mono hr (fun v h' q => by
    obtain ⟨r, rfl, q⟩ := q
    exact k r h' q) kx
theorem xw_tpf0 {M' : xm_M} {d' mc ms : Nat} {Qf : UInt32 → xm_H → Prop} (hi : xm_Imp g Γ pc (xi_spe g M' d' 0 n)) (hs : xm_stk 0 (va_rf o :: st) = true) (ho : o = some a) (h1 : mc ≤ bc) (h2 : ms ≤ bs) (hr : xm_Run g M' d' [.ref a] h mc ms (fun v h' => ∃ r, v = some (.float r) ∧ Qf r h') xm_no) (k : ∀ r h', Qf r h' → xm_W g Γ n ls (.float r :: st) h' (bc - mc) (bs - ms)) : xm_W g Γ pc ls (va_rf o :: st) h bc bs := by
  subst ho
  refine xm_use hi ⟨hs, mc, ms, ⟨h1, h2⟩, ?_⟩
  exact xm_Run.mono hr (fun v h' q => by
    obtain ⟨r, rfl, q⟩ := q
    exact k r h' q) (fun E q h' x => x)
theorem xw_tsd0 {M' : xm_M} {d' mc ms : Nat} {Qf : UInt64 → xm_H → Prop} (hi : xm_Imp g Γ pc (xi_inv g M' d' 0 n)) (hs : xm_stk 0 (st) = true) (h1 : mc ≤ bc) (h2 : ms ≤ bs) (hr : xm_Run g M' d' [] h mc ms (fun v h' => ∃ r, v = some (.double r) ∧ Qf r h') xm_no) (k : ∀ r h', Qf r h' → xm_W g Γ n ls (.double r :: st) h' (bc - mc) (bs - ms)) : xm_W g Γ pc ls (st) h bc bs := by
  refine xm_use hi ⟨hs, mc, ms, ⟨h1, h2⟩, ?_⟩
  exact xm_Run.mono hr (fun v h' q => by
    obtain ⟨r, rfl, q⟩ := q
    exact k r h' q) (fun E q h' x => x)
theorem xw_tvd0 {ci : Nat} {M' : xm_M} {d' mc ms : Nat} {Qf : UInt64 → xm_H → Prop} {u : Unit} (hi : xm_Imp g Γ pc (xi_vir g ci M' d' 0 n)) (hs : xm_stk 0 (va_rf o :: st) = true) (ho : o = some a) (hc : xh_is ci h a = some u) (h1 : mc ≤ bc) (h2 : ms ≤ bs) (hr : xm_Run g M' d' [.ref a] h mc ms (fun v h' => ∃ r, v = some (.double r) ∧ Qf r h') xm_no) (k : ∀ r h', Qf r h' → xm_W g Γ n ls (.double r :: st) h' (bc - mc) (bs - ms)) : xm_W g Γ pc ls (va_rf o :: st) h bc bs := by
  subst ho
  obtain ⟨w, fs, q⟩ := xh_is_s hc
  refine xm_use hi ⟨hs, w, fs, mc, ms, q, ⟨h1, h2⟩, ?_⟩
  exact xm_Run.mono hr (fun v h' q => by
    obtain ⟨r, rfl, q⟩ := q
    exact k r h' q) (fun E q h' x => x)
theorem xw_tXsd0 {M' : xm_M} {d' mc ms : Nat} {X : xm_X} {Qf : UInt64 → xm_H → Prop} (hi : xm_Imp g Γ pc (xi_invX g M' d' 0 n X)) (hs : xm_stk 0 (st) = true) (h1 : mc ≤ bc) (h2 : ms ≤ bs) (hr : xm_Run g M' d' [] h mc ms (fun v h' => ∃ r, v = some (.double r) ∧ Qf r h') X) (k : ∀ r h', Qf r h' → xm_W g Γ n ls (.double r :: st) h' (bc - mc) (bs - ms)) : xm_W g Γ pc ls (st) h bc bs := by
  refine xm_use hi ⟨hs, mc, ms, ⟨h1, h2⟩, ?_⟩
  exact xm_Run.mono hr (fun v h' q => by
    obtain ⟨r, rfl, q⟩ := q
    exact k r h' q) (fun E q h' x => x)
theorem xw_tXvd0 {ci : Nat} {M' : xm_M} {d' mc ms : Nat} {X : xm_X} {Qf : UInt64 → xm_H → Prop} {u : Unit} (hi : xm_Imp g Γ pc (xi_virX g ci M' d' 0 n X)) (hs : xm_stk 0 (va_rf o :: st) = true) (ho : o = some a) (hc : xh_is ci h a = some u) (h1 : mc ≤ bc) (h2 : ms ≤ bs) (hr : xm_Run g M' d' [.ref a] h mc ms (fun v h' => ∃ r, v = some (.double r) ∧ Qf r h') X) (k : ∀ r h', Qf r h' → xm_W g Γ n ls (.double r :: st) h' (bc - mc) (bs - ms)) : xm_W g Γ pc ls (va_rf o :: st) h bc bs := by
  subst ho
  obtain ⟨w, fs, q⟩ := xh_is_s hc
  refine xm_use hi ⟨hs, w, fs, mc, ms, q, ⟨h1, h2⟩, ?_⟩
  exact xm_Run.mono hr (fun v h' q => by
    obtain ⟨r, rfl, q⟩ := q
    exact k r h' q) (fun E q h' x => x)
theorem xw_tHvd0 {ci : Nat} {M' : xm_M} {d' mc ms : Nat} {XH : xm_X} {hs0 : List (String × Nat)} {Qf : UInt64 → xm_H → Prop} {u : Unit} (hi : xm_Imp g Γ pc (xi_virH g ci M' d' 0 n hs0)) (hs : xm_stk 0 (va_rf o :: st) = true) (ho : o = some a) (hc : xh_is ci h a = some u) (h1 : mc ≤ bc) (h2 : ms ≤ bs) (hr : xm_Run g M' d' [.ref a] h mc ms (fun v h' => ∃ r, v = some (.double r) ∧ Qf r h') XH) (k : ∀ r h', Qf r h' → xm_W g Γ n ls (.double r :: st) h' (bc - mc) (bs - ms)) (kx : ∀ E q h', XH E q h' → xm_hnd hs0 E (fun t => xm_W g Γ t ls [.ref q] h' (bc - mc) (bs - ms))) : xm_W g Γ pc ls (va_rf o :: st) h bc bs := by
  subst ho
  obtain ⟨w, fs, q⟩ := xh_is_s hc
  refine xm_use hi ⟨hs, w, fs, mc, ms, q, ⟨h1, h2⟩, ?_⟩
  exact xm_Run.mono hr (fun v h' q => by
    obtain ⟨r, rfl, q⟩ := q
    exact k r h' q) kx
theorem xw_tpd0 {M' : xm_M} {d' mc ms : Nat} {Qf : UInt64 → xm_H → Prop} (hi : xm_Imp g Γ pc (xi_spe g M' d' 0 n)) (hs : xm_stk 0 (va_rf o :: st) = true) (ho : o = some a) (h1 : mc ≤ bc) (h2 : ms ≤ bs) (hr : xm_Run g M' d' [.ref a] h mc ms (fun v h' => ∃ r, v = some (.double r) ∧ Qf r h') xm_no) (k : ∀ r h', Qf r h' → xm_W g Γ n ls (.double r :: st) h' (bc - mc) (bs - ms)) : xm_W g Γ pc ls (va_rf o :: st) h bc bs := by
  subst ho
  refine xm_use hi ⟨hs, mc, ms, ⟨h1, h2⟩, ?_⟩
  exact xm_Run.mono hr (fun v h' q => by
    obtain ⟨r, rfl, q⟩ := q
    exact k r h' q) (fun E q h' x => x)
theorem xw_tsr0 {M' : xm_M} {d' mc ms : Nat} {Qf : Option Nat → xm_H → Prop} (hi : xm_Imp g Γ pc (xi_inv g M' d' 0 n)) (hs : xm_stk 0 (st) = true) (h1 : mc ≤ bc) (h2 : ms ≤ bs) (hr : xm_Run g M' d' [] h mc ms (fun v h' => ∃ r, v = some (va_rf r) ∧ Qf r h') xm_no) (k : ∀ r h', Qf r h' → xm_W g Γ n ls (va_rf r :: st) h' (bc - mc) (bs - ms)) : xm_W g Γ pc ls (st) h bc bs := by
  refine xm_use hi ⟨hs, mc, ms, ⟨h1, h2⟩, ?_⟩
  exact xm_Run.mono hr (fun v h' q => by
    obtain ⟨r, rfl, q⟩ := q
    exact k r h' q) (fun E q h' x => x)
theorem xw_tvr0 {ci : Nat} {M' : xm_M} {d' mc ms : Nat} {Qf : Option Nat → xm_H → Prop} {u : Unit} (hi : xm_Imp g Γ pc (xi_vir g ci M' d' 0 n)) (hs : xm_stk 0 (va_rf o :: st) = true) (ho : o = some a) (hc : xh_is ci h a = some u) (h1 : mc ≤ bc) (h2 : ms ≤ bs) (hr : xm_Run g M' d' [.ref a] h mc ms (fun v h' => ∃ r, v = some (va_rf r) ∧ Qf r h') xm_no) (k : ∀ r h', Qf r h' → xm_W g Γ n ls (va_rf r :: st) h' (bc - mc) (bs - ms)) : xm_W g Γ pc ls (va_rf o :: st) h bc bs := by
  subst ho
  obtain ⟨w, fs, q⟩ := xh_is_s hc
  refine xm_use hi ⟨hs, w, fs, mc, ms, q, ⟨h1, h2⟩, ?_⟩
  exact xm_Run.mono hr (fun v h' q => by
    obtain ⟨r, rfl, q⟩ := q
    exact k r h' q) (fun E q h' x => x)
theorem xw_tXsr0 {M' : xm_M} {d' mc ms : Nat} {X : xm_X} {Qf : Option Nat → xm_H → Prop} (hi : xm_Imp g Γ pc (xi_invX g M' d' 0 n X)) (hs : xm_stk 0 (st) = true) (h1 : mc ≤ bc) (h2 : ms ≤ bs) (hr : xm_Run g M' d' [] h mc ms (fun v h' => ∃ r, v = some (va_rf r) ∧ Qf r h') X) (k : ∀ r h', Qf r h' → xm_W g Γ n ls (va_rf r :: st) h' (bc - mc) (bs - ms)) : xm_W g Γ pc ls (st) h bc bs := by
  refine xm_use hi ⟨hs, mc, ms, ⟨h1, h2⟩, ?_⟩
  exact xm_Run.mono hr (fun v h' q => by
    obtain ⟨r, rfl, q⟩ := q
    exact k r h' q) (fun E q h' x => x)
theorem xw_tXvr0 {ci : Nat} {M' : xm_M} {d' mc ms : Nat} {X : xm_X} {Qf : Option Nat → xm_H → Prop} {u : Unit} (hi : xm_Imp g Γ pc (xi_virX g ci M' d' 0 n X)) (hs : xm_stk 0 (va_rf o :: st) = true) (ho : o = some a) (hc : xh_is ci h a = some u) (h1 : mc ≤ bc) (h2 : ms ≤ bs) (hr : xm_Run g M' d' [.ref a] h mc ms (fun v h' => ∃ r, v = some (va_rf r) ∧ Qf r h') X) (k : ∀ r h', Qf r h' → xm_W g Γ n ls (va_rf r :: st) h' (bc - mc) (bs - ms)) : xm_W g Γ pc ls (va_rf o :: st) h bc bs := by
  subst ho
  obtain ⟨w, fs, q⟩ := xh_is_s hc
  refine xm_use hi ⟨hs, w, fs, mc, ms, q, ⟨h1, h2⟩, ?_⟩
  exact xm_Run.mono hr (fun v h' q => by
    obtain ⟨r, rfl, q⟩ := q
    exact k r h' q) (fun E q h' x => x)
theorem xw_tHvr0 {ci : Nat} {M' : xm_M} {d' mc ms : Nat} {XH : xm_X} {hs0 : List (String × Nat)} {Qf : Option Nat → xm_H → Prop} {u : Unit} (hi : xm_Imp g Γ pc (xi_virH g ci M' d' 0 n hs0)) (hs : xm_stk 0 (va_rf o :: st) = true) (ho : o = some a) (hc : xh_is ci h a = some u) (h1 : mc ≤ bc) (h2 : ms ≤ bs) (hr : xm_Run g M' d' [.ref a] h mc ms (fun v h' => ∃ r, v = some (va_rf r) ∧ Qf r h') XH) (k : ∀ r h', Qf r h' → xm_W g Γ n ls (va_rf r :: st) h' (bc - mc) (bs - ms)) (kx : ∀ E q h', XH E q h' → xm_hnd hs0 E (fun t => xm_W g Γ t ls [.ref q] h' (bc - mc) (bs - ms))) : xm_W g Γ pc ls (va_rf o :: st) h bc bs := by
  subst ho
  obtain ⟨w, fs, q⟩ := xh_is_s hc
  refine xm_use hi ⟨hs, w, fs, mc, ms, q, ⟨h1, h2⟩, ?_⟩
  exact xm_Run.mono hr (fun v h' q => by
    obtain ⟨r, rfl, q⟩ := q
    exact k r h' q) kx
theorem xw_tpr0 {M' : xm_M} {d' mc ms : Nat} {Qf : Option Nat → xm_H → Prop} (hi : xm_Imp g Γ pc (xi_spe g M' d' 0 n)) (hs : xm_stk 0 (va_rf o :: st) = true) (ho : o = some a) (h1 : mc ≤ bc) (h2 : ms ≤ bs) (hr : xm_Run g M' d' [.ref a] h mc ms (fun v h' => ∃ r, v = some (va_rf r) ∧ Qf r h') xm_no) (k : ∀ r h', Qf r h' → xm_W g Γ n ls (va_rf r :: st) h' (bc - mc) (bs - ms)) : xm_W g Γ pc ls (va_rf o :: st) h bc bs := by
  subst ho
  refine xm_use hi ⟨hs, mc, ms, ⟨h1, h2⟩, ?_⟩
  exact xm_Run.mono hr (fun v h' q => by
    obtain ⟨r, rfl, q⟩ := q
    exact k r h' q) (fun E q h' x => x)
theorem xw_tsu0 {M' : xm_M} {d' mc ms : Nat} {Qf : xm_H → Prop} (hi : xm_Imp g Γ pc (xi_inv g M' d' 0 n)) (hs : xm_stk 0 (st) = true) (h1 : mc ≤ bc) (h2 : ms ≤ bs) (hr : xm_Run g M' d' [] h mc ms (fun v h' => v = none ∧ Qf h') xm_no) (k : ∀ h', Qf h' → xm_W g Γ n ls st h' (bc - mc) (bs - ms)) : xm_W g Γ pc ls (st) h bc bs := by
  refine xm_use hi ⟨hs, mc, ms, ⟨h1, h2⟩, ?_⟩
  exact xm_Run.mono hr (fun v h' q => by
    obtain ⟨rfl, q⟩ := q
    exact k h' q) (fun E q h' x => x)
theorem xw_tvu0 {ci : Nat} {M' : xm_M} {d' mc ms : Nat} {Qf : xm_H → Prop} {u : Unit} (hi : xm_Imp g Γ pc (xi_vir g ci M' d' 0 n)) (hs : xm_stk 0 (va_rf o :: st) = true) (ho : o = some a) (hc : xh_is ci h a = some u) (h1 : mc ≤ bc) (h2 : ms ≤ bs) (hr : xm_Run g M' d' [.ref a] h mc ms (fun v h' => v = none ∧ Qf h') xm_no) (k : ∀ h', Qf h' → xm_W g Γ n ls st h' (bc - mc) (bs - ms)) : xm_W g Γ pc ls (va_rf o :: st) h bc bs := by
  subst ho
  obtain ⟨w, fs, q⟩ := xh_is_s hc
  refine xm_use hi ⟨hs, w, fs, mc, ms, q, ⟨h1, h2⟩, ?_⟩
  exact xm_Run.mono hr (fun v h' q => by
    obtain ⟨rfl, q⟩ := q
    exact k h' q) (fun E q h' x => x)
theorem xw_tXsu0 {M' : xm_M} {d' mc ms : Nat} {X : xm_X} {Qf : xm_H → Prop} (hi : xm_Imp g Γ pc (xi_invX g M' d' 0 n X)) (hs : xm_stk 0 (st) = true) (h1 : mc ≤ bc) (h2 : ms ≤ bs) (hr : xm_Run g M' d' [] h mc ms (fun v h' => v = none ∧ Qf h') X) (k : ∀ h', Qf h' → xm_W g Γ n ls st h' (bc - mc) (bs - ms)) : xm_W g Γ pc ls (st) h bc bs := by
  refine xm_use hi ⟨hs, mc, ms, ⟨h1, h2⟩, ?_⟩
  exact xm_Run.mono hr (fun v h' q => by
    obtain ⟨rfl, q⟩ := q
    exact k h' q) (fun E q h' x => x)
theorem xw_tXvu0 {ci : Nat} {M' : xm_M} {d' mc ms : Nat} {X : xm_X} {Qf : xm_H → Prop} {u : Unit} (hi : xm_Imp g Γ pc (xi_virX g ci M' d' 0 n X)) (hs : xm_stk 0 (va_rf o :: st) = true) (ho : o = some a) (hc : xh_is ci h a = some u) (h1 : mc ≤ bc) (h2 : ms ≤ bs) (hr : xm_Run g M' d' [.ref a] h mc ms (fun v h' => v = none ∧ Qf h') X) (k : ∀ h', Qf h' → xm_W g Γ n ls st h' (bc - mc) (bs - ms)) : xm_W g Γ pc ls (va_rf o :: st) h bc bs := by
  subst ho
  obtain ⟨w, fs, q⟩ := xh_is_s hc
  refine xm_use hi ⟨hs, w, fs, mc, ms, q, ⟨h1, h2⟩, ?_⟩
  exact xm_Run.mono hr (fun v h' q => by
    obtain ⟨rfl, q⟩ := q
    exact k h' q) (fun E q h' x => x)
theorem xw_tHvu0 {ci : Nat} {M' : xm_M} {d' mc ms : Nat} {XH : xm_X} {hs0 : List (String × Nat)} {Qf : xm_H → Prop} {u : Unit} (hi : xm_Imp g Γ pc (xi_virH g ci M' d' 0 n hs0)) (hs : xm_stk 0 (va_rf o :: st) = true) (ho : o = some a) (hc : xh_is ci h a = some u) (h1 : mc ≤ bc) (h2 : ms ≤ bs) (hr : xm_Run g M' d' [.ref a] h mc ms (fun v h' => v = none ∧ Qf h') XH) (k : ∀ h', Qf h' → xm_W g Γ n ls st h' (bc - mc) (bs - ms)) (kx : ∀ E q h', XH E q h' → xm_hnd hs0 E (fun t => xm_W g Γ t ls [.ref q] h' (bc - mc) (bs - ms))) : xm_W g Γ pc ls (va_rf o :: st) h bc bs := by
  subst ho
  obtain ⟨w, fs, q⟩ := xh_is_s hc
  refine xm_use hi ⟨hs, w, fs, mc, ms, q, ⟨h1, h2⟩, ?_⟩
  exact xm_Run.mono hr (fun v h' q => by
    obtain ⟨rfl, q⟩ := q
    exact k h' q) kx
theorem xw_tpu0 {M' : xm_M} {d' mc ms : Nat} {Qf : xm_H → Prop} (hi : xm_Imp g Γ pc (xi_spe g M' d' 0 n)) (hs : xm_stk 0 (va_rf o :: st) = true) (ho : o = some a) (h1 : mc ≤ bc) (h2 : ms ≤ bs) (hr : xm_Run g M' d' [.ref a] h mc ms (fun v h' => v = none ∧ Qf h') xm_no) (k : ∀ h', Qf h' → xm_W g Γ n ls st h' (bc - mc) (bs - ms)) : xm_W g Γ pc ls (va_rf o :: st) h bc bs := by
  subst ho
  refine xm_use hi ⟨hs, mc, ms, ⟨h1, h2⟩, ?_⟩
  exact xm_Run.mono hr (fun v h' q => by
    obtain ⟨rfl, q⟩ := q
    exact k h' q) (fun E q h' x => x)
theorem xw_hv1 {ci : Nat} {M' : xm_M} {d' : Nat} {h' : xm_H} {a1 : Value} {r : Value} {u : Unit} (hi : xm_Imp g Γ pc (xi_vir g ci M' d' 1 n)) (hs : xm_stk 1 (a1 :: va_rf o :: st) = true) (ho : o = some a) (hc : xh_is ci h a = some u) (hr : ∀ (Q : xm_P) (X : xm_X), Q (some r) h' → xm_Run g M' d' [.ref a, a1] h 0 0 Q X) (k : xm_W g Γ n ls (r :: st) h' bc bs) : xm_W g Γ pc ls (a1 :: va_rf o :: st) h bc bs := by
  subst ho
  obtain ⟨w, fs, q⟩ := xh_is_s hc
  exact xm_use hi ⟨hs, w, fs, 0, 0, q, ⟨Nat.zero_le _, Nat.zero_le _⟩, hr _ _ k⟩
theorem xw_pv1 {M' : xm_M} {d' : Nat} {h' : xm_H} {a1 : Value} {r : Value} (hi : xm_Imp g Γ pc (xi_spe g M' d' 1 n)) (hs : xm_stk 1 (a1 :: va_rf o :: st) = true) (ho : o = some a) (hr : ∀ (Q : xm_P) (X : xm_X), Q (some r) h' → xm_Run g M' d' [.ref a, a1] h 0 0 Q X) (k : xm_W g Γ n ls (r :: st) h' bc bs) : xm_W g Γ pc ls (a1 :: va_rf o :: st) h bc bs := by
  subst ho
  exact xm_use hi ⟨hs, 0, 0, ⟨Nat.zero_le _, Nat.zero_le _⟩, hr _ _ k⟩
theorem xw_hu1 {ci : Nat} {M' : xm_M} {d' : Nat} {h' : xm_H} {a1 : Value} {u : Unit} (hi : xm_Imp g Γ pc (xi_vir g ci M' d' 1 n)) (hs : xm_stk 1 (a1 :: va_rf o :: st) = true) (ho : o = some a) (hc : xh_is ci h a = some u) (hr : ∀ (Q : xm_P) (X : xm_X), Q (none) h' → xm_Run g M' d' [.ref a, a1] h 0 0 Q X) (k : xm_W g Γ n ls (st) h' bc bs) : xm_W g Γ pc ls (a1 :: va_rf o :: st) h bc bs := by
  subst ho
  obtain ⟨w, fs, q⟩ := xh_is_s hc
  exact xm_use hi ⟨hs, w, fs, 0, 0, q, ⟨Nat.zero_le _, Nat.zero_le _⟩, hr _ _ k⟩
theorem xw_pu1 {M' : xm_M} {d' : Nat} {h' : xm_H} {a1 : Value} (hi : xm_Imp g Γ pc (xi_spe g M' d' 1 n)) (hs : xm_stk 1 (a1 :: va_rf o :: st) = true) (ho : o = some a) (hr : ∀ (Q : xm_P) (X : xm_X), Q (none) h' → xm_Run g M' d' [.ref a, a1] h 0 0 Q X) (k : xm_W g Γ n ls (st) h' bc bs) : xm_W g Γ pc ls (a1 :: va_rf o :: st) h bc bs := by
  subst ho
  exact xm_use hi ⟨hs, 0, 0, ⟨Nat.zero_le _, Nat.zero_le _⟩, hr _ _ k⟩
theorem xw_tsi1 {M' : xm_M} {d' mc ms : Nat} {Qf : Int32 → xm_H → Prop} {a1 : Value} (hi : xm_Imp g Γ pc (xi_inv g M' d' 1 n)) (hs : xm_stk 1 (a1 :: st) = true) (h1 : mc ≤ bc) (h2 : ms ≤ bs) (hr : xm_Run g M' d' [a1] h mc ms (fun v h' => ∃ r, v = some (.int r) ∧ Qf r h') xm_no) (k : ∀ r h', Qf r h' → xm_W g Γ n ls (.int r :: st) h' (bc - mc) (bs - ms)) : xm_W g Γ pc ls (a1 :: st) h bc bs := by
  refine xm_use hi ⟨hs, mc, ms, ⟨h1, h2⟩, ?_⟩
  exact xm_Run.mono hr (fun v h' q => by
    obtain ⟨r, rfl, q⟩ := q
    exact k r h' q) (fun E q h' x => x)
theorem xw_tvi1 {ci : Nat} {M' : xm_M} {d' mc ms : Nat} {Qf : Int32 → xm_H → Prop} {a1 : Value} {u : Unit} (hi : xm_Imp g Γ pc (xi_vir g ci M' d' 1 n)) (hs : xm_stk 1 (a1 :: va_rf o :: st) = true) (ho : o = some a) (hc : xh_is ci h a = some u) (h1 : mc ≤ bc) (h2 : ms ≤ bs) (hr : xm_Run g M' d' [.ref a, a1] h mc ms (fun v h' => ∃ r, v = some (.int r) ∧ Qf r h') xm_no) (k : ∀ r h', Qf r h' → xm_W g Γ n ls (.int r :: st) h' (bc - mc) (bs - ms)) : xm_W g Γ pc ls (a1 :: va_rf o :: st) h bc bs := by
  subst ho
  obtain ⟨w, fs, q⟩ := xh_is_s hc
  refine xm_use hi ⟨hs, w, fs, mc, ms, q, ⟨h1, h2⟩, ?_⟩
  exact xm_Run.mono hr (fun v h' q => by
    obtain ⟨r, rfl, q⟩ := q
    exact k r h' q) (fun E q h' x => x)
theorem xw_tXsi1 {M' : xm_M} {d' mc ms : Nat} {X : xm_X} {Qf : Int32 → xm_H → Prop} {a1 : Value} (hi : xm_Imp g Γ pc (xi_invX g M' d' 1 n X)) (hs : xm_stk 1 (a1 :: st) = true) (h1 : mc ≤ bc) (h2 : ms ≤ bs) (hr : xm_Run g M' d' [a1] h mc ms (fun v h' => ∃ r, v = some (.int r) ∧ Qf r h') X) (k : ∀ r h', Qf r h' → xm_W g Γ n ls (.int r :: st) h' (bc - mc) (bs - ms)) : xm_W g Γ pc ls (a1 :: st) h bc bs := by
  refine xm_use hi ⟨hs, mc, ms, ⟨h1, h2⟩, ?_⟩
  exact xm_Run.mono hr (fun v h' q => by
    obtain ⟨r, rfl, q⟩ := q
    exact k r h' q) (fun E q h' x => x)
theorem xw_tXvi1 {ci : Nat} {M' : xm_M} {d' mc ms : Nat} {X : xm_X} {Qf : Int32 → xm_H → Prop} {a1 : Value} {u : Unit} (hi : xm_Imp g Γ pc (xi_virX g ci M' d' 1 n X)) (hs : xm_stk 1 (a1 :: va_rf o :: st) = true) (ho : o = some a) (hc : xh_is ci h a = some u) (h1 : mc ≤ bc) (h2 : ms ≤ bs) (hr : xm_Run g M' d' [.ref a, a1] h mc ms (fun v h' => ∃ r, v = some (.int r) ∧ Qf r h') X) (k : ∀ r h', Qf r h' → xm_W g Γ n ls (.int r :: st) h' (bc - mc) (bs - ms)) : xm_W g Γ pc ls (a1 :: va_rf o :: st) h bc bs := by
  subst ho
  obtain ⟨w, fs, q⟩ := xh_is_s hc
  refine xm_use hi ⟨hs, w, fs, mc, ms, q, ⟨h1, h2⟩, ?_⟩
  exact xm_Run.mono hr (fun v h' q => by
    obtain ⟨r, rfl, q⟩ := q
    exact k r h' q) (fun E q h' x => x)
theorem xw_tHvi1 {ci : Nat} {M' : xm_M} {d' mc ms : Nat} {XH : xm_X} {hs0 : List (String × Nat)} {Qf : Int32 → xm_H → Prop} {a1 : Value} {u : Unit} (hi : xm_Imp g Γ pc (xi_virH g ci M' d' 1 n hs0)) (hs : xm_stk 1 (a1 :: va_rf o :: st) = true) (ho : o = some a) (hc : xh_is ci h a = some u) (h1 : mc ≤ bc) (h2 : ms ≤ bs) (hr : xm_Run g M' d' [.ref a, a1] h mc ms (fun v h' => ∃ r, v = some (.int r) ∧ Qf r h') XH) (k : ∀ r h', Qf r h' → xm_W g Γ n ls (.int r :: st) h' (bc - mc) (bs - ms)) (kx : ∀ E q h', XH E q h' → xm_hnd hs0 E (fun t => xm_W g Γ t ls [.ref q] h' (bc - mc) (bs - ms))) : xm_W g Γ pc ls (a1 :: va_rf o :: st) h bc bs := by
  subst ho
  obtain ⟨w, fs, q⟩ := xh_is_s hc
  refine xm_use hi ⟨hs, w, fs, mc, ms, q, ⟨h1, h2⟩, ?_⟩
  exact xm_Run.mono hr (fun v h' q => by
    obtain ⟨r, rfl, q⟩ := q
    exact k r h' q) kx
theorem xw_tpi1 {M' : xm_M} {d' mc ms : Nat} {Qf : Int32 → xm_H → Prop} {a1 : Value} (hi : xm_Imp g Γ pc (xi_spe g M' d' 1 n)) (hs : xm_stk 1 (a1 :: va_rf o :: st) = true) (ho : o = some a) (h1 : mc ≤ bc) (h2 : ms ≤ bs) (hr : xm_Run g M' d' [.ref a, a1] h mc ms (fun v h' => ∃ r, v = some (.int r) ∧ Qf r h') xm_no) (k : ∀ r h', Qf r h' → xm_W g Γ n ls (.int r :: st) h' (bc - mc) (bs - ms)) : xm_W g Γ pc ls (a1 :: va_rf o :: st) h bc bs := by
  subst ho
  refine xm_use hi ⟨hs, mc, ms, ⟨h1, h2⟩, ?_⟩
  exact xm_Run.mono hr (fun v h' q => by
    obtain ⟨r, rfl, q⟩ := q
    exact k r h' q) (fun E q h' x => x)
theorem xw_tsl1 {M' : xm_M} {d' mc ms : Nat} {Qf : Int64 → xm_H → Prop} {a1 : Value} (hi : xm_Imp g Γ pc (xi_inv g M' d' 1 n)) (hs : xm_stk 1 (a1 :: st) = true) (h1 : mc ≤ bc) (h2 : ms ≤ bs) (hr : xm_Run g M' d' [a1] h mc ms (fun v h' => ∃ r, v = some (.long r) ∧ Qf r h') xm_no) (k : ∀ r h', Qf r h' → xm_W g Γ n ls (.long r :: st) h' (bc - mc) (bs - ms)) : xm_W g Γ pc ls (a1 :: st) h bc bs := by
  refine xm_use hi ⟨hs, mc, ms, ⟨h1, h2⟩, ?_⟩
  exact xm_Run.mono hr (fun v h' q => by
    obtain ⟨r, rfl, q⟩ := q
    exact k r h' q) (fun E q h' x => x)
theorem xw_tvl1 {ci : Nat} {M' : xm_M} {d' mc ms : Nat} {Qf : Int64 → xm_H → Prop} {a1 : Value} {u : Unit} (hi : xm_Imp g Γ pc (xi_vir g ci M' d' 1 n)) (hs : xm_stk 1 (a1 :: va_rf o :: st) = true) (ho : o = some a) (hc : xh_is ci h a = some u) (h1 : mc ≤ bc) (h2 : ms ≤ bs) (hr : xm_Run g M' d' [.ref a, a1] h mc ms (fun v h' => ∃ r, v = some (.long r) ∧ Qf r h') xm_no) (k : ∀ r h', Qf r h' → xm_W g Γ n ls (.long r :: st) h' (bc - mc) (bs - ms)) : xm_W g Γ pc ls (a1 :: va_rf o :: st) h bc bs := by
  subst ho
  obtain ⟨w, fs, q⟩ := xh_is_s hc
  refine xm_use hi ⟨hs, w, fs, mc, ms, q, ⟨h1, h2⟩, ?_⟩
  exact xm_Run.mono hr (fun v h' q => by
    obtain ⟨r, rfl, q⟩ := q
    exact k r h' q) (fun E q h' x => x)
theorem xw_tXsl1 {M' : xm_M} {d' mc ms : Nat} {X : xm_X} {Qf : Int64 → xm_H → Prop} {a1 : Value} (hi : xm_Imp g Γ pc (xi_invX g M' d' 1 n X)) (hs : xm_stk 1 (a1 :: st) = true) (h1 : mc ≤ bc) (h2 : ms ≤ bs) (hr : xm_Run g M' d' [a1] h mc ms (fun v h' => ∃ r, v = some (.long r) ∧ Qf r h') X) (k : ∀ r h', Qf r h' → xm_W g Γ n ls (.long r :: st) h' (bc - mc) (bs - ms)) : xm_W g Γ pc ls (a1 :: st) h bc bs := by
  refine xm_use hi ⟨hs, mc, ms, ⟨h1, h2⟩, ?_⟩
  exact xm_Run.mono hr (fun v h' q => by
    obtain ⟨r, rfl, q⟩ := q
    exact k r h' q) (fun E q h' x => x)
theorem xw_tXvl1 {ci : Nat} {M' : xm_M} {d' mc ms : Nat} {X : xm_X} {Qf : Int64 → xm_H → Prop} {a1 : Value} {u : Unit} (hi : xm_Imp g Γ pc (xi_virX g ci M' d' 1 n X)) (hs : xm_stk 1 (a1 :: va_rf o :: st) = true) (ho : o = some a) (hc : xh_is ci h a = some u) (h1 : mc ≤ bc) (h2 : ms ≤ bs) (hr : xm_Run g M' d' [.ref a, a1] h mc ms (fun v h' => ∃ r, v = some (.long r) ∧ Qf r h') X) (k : ∀ r h', Qf r h' → xm_W g Γ n ls (.long r :: st) h' (bc - mc) (bs - ms)) : xm_W g Γ pc ls (a1 :: va_rf o :: st) h bc bs := by
  subst ho
  obtain ⟨w, fs, q⟩ := xh_is_s hc
  refine xm_use hi ⟨hs, w, fs, mc, ms, q, ⟨h1, h2⟩, ?_⟩
  exact xm_Run.mono hr (fun v h' q => by
    obtain ⟨r, rfl, q⟩ := q
    exact k r h' q) (fun E q h' x => x)
theorem xw_tHvl1 {ci : Nat} {M' : xm_M} {d' mc ms : Nat} {XH : xm_X} {hs0 : List (String × Nat)} {Qf : Int64 → xm_H → Prop} {a1 : Value} {u : Unit} (hi : xm_Imp g Γ pc (xi_virH g ci M' d' 1 n hs0)) (hs : xm_stk 1 (a1 :: va_rf o :: st) = true) (ho : o = some a) (hc : xh_is ci h a = some u) (h1 : mc ≤ bc) (h2 : ms ≤ bs) (hr : xm_Run g M' d' [.ref a, a1] h mc ms (fun v h' => ∃ r, v = some (.long r) ∧ Qf r h') XH) (k : ∀ r h', Qf r h' → xm_W g Γ n ls (.long r :: st) h' (bc - mc) (bs - ms)) (kx : ∀ E q h', XH E q h' → xm_hnd hs0 E (fun t => xm_W g Γ t ls [.ref q] h' (bc - mc) (bs - ms))) : xm_W g Γ pc ls (a1 :: va_rf o :: st) h bc bs := by
  subst ho
  obtain ⟨w, fs, q⟩ := xh_is_s hc
  refine xm_use hi ⟨hs, w, fs, mc, ms, q, ⟨h1, h2⟩, ?_⟩
  exact xm_Run.mono hr (fun v h' q => by
    obtain ⟨r, rfl, q⟩ := q
    exact k r h' q) kx
theorem xw_tpl1 {M' : xm_M} {d' mc ms : Nat} {Qf : Int64 → xm_H → Prop} {a1 : Value} (hi : xm_Imp g Γ pc (xi_spe g M' d' 1 n)) (hs : xm_stk 1 (a1 :: va_rf o :: st) = true) (ho : o = some a) (h1 : mc ≤ bc) (h2 : ms ≤ bs) (hr : xm_Run g M' d' [.ref a, a1] h mc ms (fun v h' => ∃ r, v = some (.long r) ∧ Qf r h') xm_no) (k : ∀ r h', Qf r h' → xm_W g Γ n ls (.long r :: st) h' (bc - mc) (bs - ms)) : xm_W g Γ pc ls (a1 :: va_rf o :: st) h bc bs := by
  subst ho
  refine xm_use hi ⟨hs, mc, ms, ⟨h1, h2⟩, ?_⟩
  exact xm_Run.mono hr (fun v h' q => by
    obtain ⟨r, rfl, q⟩ := q
    exact k r h' q) (fun E q h' x => x)
theorem xw_tsf1 {M' : xm_M} {d' mc ms : Nat} {Qf : UInt32 → xm_H → Prop} {a1 : Value} (hi : xm_Imp g Γ pc (xi_inv g M' d' 1 n)) (hs : xm_stk 1 (a1 :: st) = true) (h1 : mc ≤ bc) (h2 : ms ≤ bs) (hr : xm_Run g M' d' [a1] h mc ms (fun v h' => ∃ r, v = some (.float r) ∧ Qf r h') xm_no) (k : ∀ r h', Qf r h' → xm_W g Γ n ls (.float r :: st) h' (bc - mc) (bs - ms)) : xm_W g Γ pc ls (a1 :: st) h bc bs := by
  refine xm_use hi ⟨hs, mc, ms, ⟨h1, h2⟩, ?_⟩
  exact xm_Run.mono hr (fun v h' q => by
    obtain ⟨r, rfl, q⟩ := q
    exact k r h' q) (fun E q h' x => x)
theorem xw_tvf1 {ci : Nat} {M' : xm_M} {d' mc ms : Nat} {Qf : UInt32 → xm_H → Prop} {a1 : Value} {u : Unit} (hi : xm_Imp g Γ pc (xi_vir g ci M' d' 1 n)) (hs : xm_stk 1 (a1 :: va_rf o :: st) = true) (ho : o = some a) (hc : xh_is ci h a = some u) (h1 : mc ≤ bc) (h2 : ms ≤ bs) (hr : xm_Run g M' d' [.ref a, a1] h mc ms (fun v h' => ∃ r, v = some (.float r) ∧ Qf r h') xm_no) (k : ∀ r h', Qf r h' → xm_W g Γ n ls (.float r :: st) h' (bc - mc) (bs - ms)) : xm_W g Γ pc ls (a1 :: va_rf o :: st) h bc bs := by
  subst ho
  obtain ⟨w, fs, q⟩ := xh_is_s hc
  refine xm_use hi ⟨hs, w, fs, mc, ms, q, ⟨h1, h2⟩, ?_⟩
  exact xm_Run.mono hr (fun v h' q => by
    obtain ⟨r, rfl, q⟩ := q
    exact k r h' q) (fun E q h' x => x)
theorem xw_tXsf1 {M' : xm_M} {d' mc ms : Nat} {X : xm_X} {Qf : UInt32 → xm_H → Prop} {a1 : Value} (hi : xm_Imp g Γ pc (xi_invX g M' d' 1 n X)) (hs : xm_stk 1 (a1 :: st) = true) (h1 : mc ≤ bc) (h2 : ms ≤ bs) (hr : xm_Run g M' d' [a1] h mc ms (fun v h' => ∃ r, v = some (.float r) ∧ Qf r h') X) (k : ∀ r h', Qf r h' → xm_W g Γ n ls (.float r :: st) h' (bc - mc) (bs - ms)) : xm_W g Γ pc ls (a1 :: st) h bc bs := by
  refine xm_use hi ⟨hs, mc, ms, ⟨h1, h2⟩, ?_⟩
  exact xm_Run.mono hr (fun v h' q => by
    obtain ⟨r, rfl, q⟩ := q
    exact k r h' q) (fun E q h' x => x)
theorem xw_tXvf1 {ci : Nat} {M' : xm_M} {d' mc ms : Nat} {X : xm_X} {Qf : UInt32 → xm_H → Prop} {a1 : Value} {u : Unit} (hi : xm_Imp g Γ pc (xi_virX g ci M' d' 1 n X)) (hs : xm_stk 1 (a1 :: va_rf o :: st) = true) (ho : o = some a) (hc : xh_is ci h a = some u) (h1 : mc ≤ bc) (h2 : ms ≤ bs) (hr : xm_Run g M' d' [.ref a, a1] h mc ms (fun v h' => ∃ r, v = some (.float r) ∧ Qf r h') X) (k : ∀ r h', Qf r h' → xm_W g Γ n ls (.float r :: st) h' (bc - mc) (bs - ms)) : xm_W g Γ pc ls (a1 :: va_rf o :: st) h bc bs := by
  subst ho
  obtain ⟨w, fs, q⟩ := xh_is_s hc
  refine xm_use hi ⟨hs, w, fs, mc, ms, q, ⟨h1, h2⟩, ?_⟩
  exact xm_Run.mono hr (fun v h' q => by
    obtain ⟨r, rfl, q⟩ := q
    exact k r h' q) (fun E q h' x => x)
theorem xw_tHvf1 {ci : Nat} {M' : xm_M} {d' mc ms : Nat} {XH : xm_X} {hs0 : List (String × Nat)} {Qf : UInt32 → xm_H → Prop} {a1 : Value} {u : Unit} (hi : xm_Imp g Γ pc (xi_virH g ci M' d' 1 n hs0)) (hs : xm_stk 1 (a1 :: va_rf o :: st) = true) (ho : o = some a) (hc : xh_is ci h a = some u) (h1 : mc ≤ bc) (h2 : ms ≤ bs) (hr : xm_Run g M' d' [.ref a, a1] h mc ms (fun v h' => ∃ r, v = some (.float r) ∧ Qf r h') XH) (k : ∀ r h', Qf r h' → xm_W g Γ n ls (.float r :: st) h' (bc - mc) (bs - ms)) (kx : ∀ E q h', XH E q h' → xm_hnd hs0 E (fun t => xm_W g Γ t ls [.ref q] h' (bc - mc) (bs - ms))) : xm_W g Γ pc ls (a1 :: va_rf o :: st) h bc bs := by
  subst ho
  obtain ⟨w, fs, q⟩ := xh_is_s hc
  refine xm_use hi ⟨hs, w, fs, mc, ms, q, ⟨h1, h2⟩, ?_⟩
  exact xm_Run.mono hr (fun v h' q => by
    obtain ⟨r, rfl, q⟩ := q
    exact k r h' q) kx
theorem xw_tpf1 {M' : xm_M} {d' mc ms : Nat} {Qf : UInt32 → xm_H → Prop} {a1 : Value} (hi : xm_Imp g Γ pc (xi_spe g M' d' 1 n)) (hs : xm_stk 1 (a1 :: va_rf o :: st) = true) (ho : o = some a) (h1 : mc ≤ bc) (h2 : ms ≤ bs) (hr : xm_Run g M' d' [.ref a, a1] h mc ms (fun v h' => ∃ r, v = some (.float r) ∧ Qf r h') xm_no) (k : ∀ r h', Qf r h' → xm_W g Γ n ls (.float r :: st) h' (bc - mc) (bs - ms)) : xm_W g Γ pc ls (a1 :: va_rf o :: st) h bc bs := by
  subst ho
  refine xm_use hi ⟨hs, mc, ms, ⟨h1, h2⟩, ?_⟩
  exact xm_Run.mono hr (fun v h' q => by
    obtain ⟨r, rfl, q⟩ := q
    exact k r h' q) (fun E q h' x => x)
theorem xw_tsd1 {M' : xm_M} {d' mc ms : Nat} {Qf : UInt64 → xm_H → Prop} {a1 : Value} (hi : xm_Imp g Γ pc (xi_inv g M' d' 1 n)) (hs : xm_stk 1 (a1 :: st) = true) (h1 : mc ≤ bc) (h2 : ms ≤ bs) (hr : xm_Run g M' d' [a1] h mc ms (fun v h' => ∃ r, v = some (.double r) ∧ Qf r h') xm_no) (k : ∀ r h', Qf r h' → xm_W g Γ n ls (.double r :: st) h' (bc - mc) (bs - ms)) : xm_W g Γ pc ls (a1 :: st) h bc bs := by
  refine xm_use hi ⟨hs, mc, ms, ⟨h1, h2⟩, ?_⟩
  exact xm_Run.mono hr (fun v h' q => by
    obtain ⟨r, rfl, q⟩ := q
    exact k r h' q) (fun E q h' x => x)
theorem xw_tvd1 {ci : Nat} {M' : xm_M} {d' mc ms : Nat} {Qf : UInt64 → xm_H → Prop} {a1 : Value} {u : Unit} (hi : xm_Imp g Γ pc (xi_vir g ci M' d' 1 n)) (hs : xm_stk 1 (a1 :: va_rf o :: st) = true) (ho : o = some a) (hc : xh_is ci h a = some u) (h1 : mc ≤ bc) (h2 : ms ≤ bs) (hr : xm_Run g M' d' [.ref a, a1] h mc ms (fun v h' => ∃ r, v = some (.double r) ∧ Qf r h') xm_no) (k : ∀ r h', Qf r h' → xm_W g Γ n ls (.double r :: st) h' (bc - mc) (bs - ms)) : xm_W g Γ pc ls (a1 :: va_rf o :: st) h bc bs := by
  subst ho
  obtain ⟨w, fs, q⟩ := xh_is_s hc
  refine xm_use hi ⟨hs, w, fs, mc, ms, q, ⟨h1, h2⟩, ?_⟩
  exact xm_Run.mono hr (fun v h' q => by
    obtain ⟨r, rfl, q⟩ := q
    exact k r h' q) (fun E q h' x => x)
theorem xw_tXsd1 {M' : xm_M} {d' mc ms : Nat} {X : xm_X} {Qf : UInt64 → xm_H → Prop} {a1 : Value} (hi : xm_Imp g Γ pc (xi_invX g M' d' 1 n X)) (hs : xm_stk 1 (a1 :: st) = true) (h1 : mc ≤ bc) (h2 : ms ≤ bs) (hr : xm_Run g M' d' [a1] h mc ms (fun v h' => ∃ r, v = some (.double r) ∧ Qf r h') X) (k : ∀ r h', Qf r h' → xm_W g Γ n ls (.double r :: st) h' (bc - mc) (bs - ms)) : xm_W g Γ pc ls (a1 :: st) h bc bs := by
  refine xm_use hi ⟨hs, mc, ms, ⟨h1, h2⟩, ?_⟩
  exact xm_Run.mono hr (fun v h' q => by
    obtain ⟨r, rfl, q⟩ := q
    exact k r h' q) (fun E q h' x => x)
theorem xw_tXvd1 {ci : Nat} {M' : xm_M} {d' mc ms : Nat} {X : xm_X} {Qf : UInt64 → xm_H → Prop} {a1 : Value} {u : Unit} (hi : xm_Imp g Γ pc (xi_virX g ci M' d' 1 n X)) (hs : xm_stk 1 (a1 :: va_rf o :: st) = true) (ho : o = some a) (hc : xh_is ci h a = some u) (h1 : mc ≤ bc) (h2 : ms ≤ bs) (hr : xm_Run g M' d' [.ref a, a1] h mc ms (fun v h' => ∃ r, v = some (.double r) ∧ Qf r h') X) (k : ∀ r h', Qf r h' → xm_W g Γ n ls (.double r :: st) h' (bc - mc) (bs - ms)) : xm_W g Γ pc ls (a1 :: va_rf o :: st) h bc bs := by
  subst ho
  obtain ⟨w, fs, q⟩ := xh_is_s hc
  refine xm_use hi ⟨hs, w, fs, mc, ms, q, ⟨h1, h2⟩, ?_⟩
  exact xm_Run.mono hr (fun v h' q => by
    obtain ⟨r, rfl, q⟩ := q
    exact k r h' q) (fun E q h' x => x)
theorem xw_tHvd1 {ci : Nat} {M' : xm_M} {d' mc ms : Nat} {XH : xm_X} {hs0 : List (String × Nat)} {Qf : UInt64 → xm_H → Prop} {a1 : Value} {u : Unit} (hi : xm_Imp g Γ pc (xi_virH g ci M' d' 1 n hs0)) (hs : xm_stk 1 (a1 :: va_rf o :: st) = true) (ho : o = some a) (hc : xh_is ci h a = some u) (h1 : mc ≤ bc) (h2 : ms ≤ bs) (hr : xm_Run g M' d' [.ref a, a1] h mc ms (fun v h' => ∃ r, v = some (.double r) ∧ Qf r h') XH) (k : ∀ r h', Qf r h' → xm_W g Γ n ls (.double r :: st) h' (bc - mc) (bs - ms)) (kx : ∀ E q h', XH E q h' → xm_hnd hs0 E (fun t => xm_W g Γ t ls [.ref q] h' (bc - mc) (bs - ms))) : xm_W g Γ pc ls (a1 :: va_rf o :: st) h bc bs := by
  subst ho
  obtain ⟨w, fs, q⟩ := xh_is_s hc
  refine xm_use hi ⟨hs, w, fs, mc, ms, q, ⟨h1, h2⟩, ?_⟩
  exact xm_Run.mono hr (fun v h' q => by
    obtain ⟨r, rfl, q⟩ := q
    exact k r h' q) kx
theorem xw_tpd1 {M' : xm_M} {d' mc ms : Nat} {Qf : UInt64 → xm_H → Prop} {a1 : Value} (hi : xm_Imp g Γ pc (xi_spe g M' d' 1 n)) (hs : xm_stk 1 (a1 :: va_rf o :: st) = true) (ho : o = some a) (h1 : mc ≤ bc) (h2 : ms ≤ bs) (hr : xm_Run g M' d' [.ref a, a1] h mc ms (fun v h' => ∃ r, v = some (.double r) ∧ Qf r h') xm_no) (k : ∀ r h', Qf r h' → xm_W g Γ n ls (.double r :: st) h' (bc - mc) (bs - ms)) : xm_W g Γ pc ls (a1 :: va_rf o :: st) h bc bs := by
  subst ho
  refine xm_use hi ⟨hs, mc, ms, ⟨h1, h2⟩, ?_⟩
  exact xm_Run.mono hr (fun v h' q => by
    obtain ⟨r, rfl, q⟩ := q
    exact k r h' q) (fun E q h' x => x)
theorem xw_tsr1 {M' : xm_M} {d' mc ms : Nat} {Qf : Option Nat → xm_H → Prop} {a1 : Value} (hi : xm_Imp g Γ pc (xi_inv g M' d' 1 n)) (hs : xm_stk 1 (a1 :: st) = true) (h1 : mc ≤ bc) (h2 : ms ≤ bs) (hr : xm_Run g M' d' [a1] h mc ms (fun v h' => ∃ r, v = some (va_rf r) ∧ Qf r h') xm_no) (k : ∀ r h', Qf r h' → xm_W g Γ n ls (va_rf r :: st) h' (bc - mc) (bs - ms)) : xm_W g Γ pc ls (a1 :: st) h bc bs := by
  refine xm_use hi ⟨hs, mc, ms, ⟨h1, h2⟩, ?_⟩
  exact xm_Run.mono hr (fun v h' q => by
    obtain ⟨r, rfl, q⟩ := q
    exact k r h' q) (fun E q h' x => x)
theorem xw_tvr1 {ci : Nat} {M' : xm_M} {d' mc ms : Nat} {Qf : Option Nat → xm_H → Prop} {a1 : Value} {u : Unit} (hi : xm_Imp g Γ pc (xi_vir g ci M' d' 1 n)) (hs : xm_stk 1 (a1 :: va_rf o :: st) = true) (ho : o = some a) (hc : xh_is ci h a = some u) (h1 : mc ≤ bc) (h2 : ms ≤ bs) (hr : xm_Run g M' d' [.ref a, a1] h mc ms (fun v h' => ∃ r, v = some (va_rf r) ∧ Qf r h') xm_no) (k : ∀ r h', Qf r h' → xm_W g Γ n ls (va_rf r :: st) h' (bc - mc) (bs - ms)) : xm_W g Γ pc ls (a1 :: va_rf o :: st) h bc bs := by
  subst ho
  obtain ⟨w, fs, q⟩ := xh_is_s hc
  refine xm_use hi ⟨hs, w, fs, mc, ms, q, ⟨h1, h2⟩, ?_⟩
  exact xm_Run.mono hr (fun v h' q => by
    obtain ⟨r, rfl, q⟩ := q
    exact k r h' q) (fun E q h' x => x)
theorem xw_tXsr1 {M' : xm_M} {d' mc ms : Nat} {X : xm_X} {Qf : Option Nat → xm_H → Prop} {a1 : Value} (hi : xm_Imp g Γ pc (xi_invX g M' d' 1 n X)) (hs : xm_stk 1 (a1 :: st) = true) (h1 : mc ≤ bc) (h2 : ms ≤ bs) (hr : xm_Run g M' d' [a1] h mc ms (fun v h' => ∃ r, v = some (va_rf r) ∧ Qf r h') X) (k : ∀ r h', Qf r h' → xm_W g Γ n ls (va_rf r :: st) h' (bc - mc) (bs - ms)) : xm_W g Γ pc ls (a1 :: st) h bc bs := by
  refine xm_use hi ⟨hs, mc, ms, ⟨h1, h2⟩, ?_⟩
  exact xm_Run.mono hr (fun v h' q => by
    obtain ⟨r, rfl, q⟩ := q
    exact k r h' q) (fun E q h' x => x)
theorem xw_tXvr1 {ci : Nat} {M' : xm_M} {d' mc ms : Nat} {X : xm_X} {Qf : Option Nat → xm_H → Prop} {a1 : Value} {u : Unit} (hi : xm_Imp g Γ pc (xi_virX g ci M' d' 1 n X)) (hs : xm_stk 1 (a1 :: va_rf o :: st) = true) (ho : o = some a) (hc : xh_is ci h a = some u) (h1 : mc ≤ bc) (h2 : ms ≤ bs) (hr : xm_Run g M' d' [.ref a, a1] h mc ms (fun v h' => ∃ r, v = some (va_rf r) ∧ Qf r h') X) (k : ∀ r h', Qf r h' → xm_W g Γ n ls (va_rf r :: st) h' (bc - mc) (bs - ms)) : xm_W g Γ pc ls (a1 :: va_rf o :: st) h bc bs := by
  subst ho
  obtain ⟨w, fs, q⟩ := xh_is_s hc
  refine xm_use hi ⟨hs, w, fs, mc, ms, q, ⟨h1, h2⟩, ?_⟩
  exact xm_Run.mono hr (fun v h' q => by
    obtain ⟨r, rfl, q⟩ := q
    exact k r h' q) (fun E q h' x => x)
theorem xw_tHvr1 {ci : Nat} {M' : xm_M} {d' mc ms : Nat} {XH : xm_X} {hs0 : List (String × Nat)} {Qf : Option Nat → xm_H → Prop} {a1 : Value} {u : Unit} (hi : xm_Imp g Γ pc (xi_virH g ci M' d' 1 n hs0)) (hs : xm_stk 1 (a1 :: va_rf o :: st) = true) (ho : o = some a) (hc : xh_is ci h a = some u) (h1 : mc ≤ bc) (h2 : ms ≤ bs) (hr : xm_Run g M' d' [.ref a, a1] h mc ms (fun v h' => ∃ r, v = some (va_rf r) ∧ Qf r h') XH) (k : ∀ r h', Qf r h' → xm_W g Γ n ls (va_rf r :: st) h' (bc - mc) (bs - ms)) (kx : ∀ E q h', XH E q h' → xm_hnd hs0 E (fun t => xm_W g Γ t ls [.ref q] h' (bc - mc) (bs - ms))) : xm_W g Γ pc ls (a1 :: va_rf o :: st) h bc bs := by
  subst ho
  obtain ⟨w, fs, q⟩ := xh_is_s hc
  refine xm_use hi ⟨hs, w, fs, mc, ms, q, ⟨h1, h2⟩, ?_⟩
  exact xm_Run.mono hr (fun v h' q => by
    obtain ⟨r, rfl, q⟩ := q
    exact k r h' q) kx
theorem xw_tpr1 {M' : xm_M} {d' mc ms : Nat} {Qf : Option Nat → xm_H → Prop} {a1 : Value} (hi : xm_Imp g Γ pc (xi_spe g M' d' 1 n)) (hs : xm_stk 1 (a1 :: va_rf o :: st) = true) (ho : o = some a) (h1 : mc ≤ bc) (h2 : ms ≤ bs) (hr : xm_Run g M' d' [.ref a, a1] h mc ms (fun v h' => ∃ r, v = some (va_rf r) ∧ Qf r h') xm_no) (k : ∀ r h', Qf r h' → xm_W g Γ n ls (va_rf r :: st) h' (bc - mc) (bs - ms)) : xm_W g Γ pc ls (a1 :: va_rf o :: st) h bc bs := by
  subst ho
  refine xm_use hi ⟨hs, mc, ms, ⟨h1, h2⟩, ?_⟩
  exact xm_Run.mono hr (fun v h' q => by
    obtain ⟨r, rfl, q⟩ := q
    exact k r h' q) (fun E q h' x => x)
theorem xw_tsu1 {M' : xm_M} {d' mc ms : Nat} {Qf : xm_H → Prop} {a1 : Value} (hi : xm_Imp g Γ pc (xi_inv g M' d' 1 n)) (hs : xm_stk 1 (a1 :: st) = true) (h1 : mc ≤ bc) (h2 : ms ≤ bs) (hr : xm_Run g M' d' [a1] h mc ms (fun v h' => v = none ∧ Qf h') xm_no) (k : ∀ h', Qf h' → xm_W g Γ n ls st h' (bc - mc) (bs - ms)) : xm_W g Γ pc ls (a1 :: st) h bc bs := by
  refine xm_use hi ⟨hs, mc, ms, ⟨h1, h2⟩, ?_⟩
  exact xm_Run.mono hr (fun v h' q => by
    obtain ⟨rfl, q⟩ := q
    exact k h' q) (fun E q h' x => x)
theorem xw_tvu1 {ci : Nat} {M' : xm_M} {d' mc ms : Nat} {Qf : xm_H → Prop} {a1 : Value} {u : Unit} (hi : xm_Imp g Γ pc (xi_vir g ci M' d' 1 n)) (hs : xm_stk 1 (a1 :: va_rf o :: st) = true) (ho : o = some a) (hc : xh_is ci h a = some u) (h1 : mc ≤ bc) (h2 : ms ≤ bs) (hr : xm_Run g M' d' [.ref a, a1] h mc ms (fun v h' => v = none ∧ Qf h') xm_no) (k : ∀ h', Qf h' → xm_W g Γ n ls st h' (bc - mc) (bs - ms)) : xm_W g Γ pc ls (a1 :: va_rf o :: st) h bc bs := by
  subst ho
  obtain ⟨w, fs, q⟩ := xh_is_s hc
  refine xm_use hi ⟨hs, w, fs, mc, ms, q, ⟨h1, h2⟩, ?_⟩
  exact xm_Run.mono hr (fun v h' q => by
    obtain ⟨rfl, q⟩ := q
    exact k h' q) (fun E q h' x => x)
theorem xw_tXsu1 {M' : xm_M} {d' mc ms : Nat} {X : xm_X} {Qf : xm_H → Prop} {a1 : Value} (hi : xm_Imp g Γ pc (xi_invX g M' d' 1 n X)) (hs : xm_stk 1 (a1 :: st) = true) (h1 : mc ≤ bc) (h2 : ms ≤ bs) (hr : xm_Run g M' d' [a1] h mc ms (fun v h' => v = none ∧ Qf h') X) (k : ∀ h', Qf h' → xm_W g Γ n ls st h' (bc - mc) (bs - ms)) : xm_W g Γ pc ls (a1 :: st) h bc bs := by
  refine xm_use hi ⟨hs, mc, ms, ⟨h1, h2⟩, ?_⟩
  exact xm_Run.mono hr (fun v h' q => by
    obtain ⟨rfl, q⟩ := q
    exact k h' q) (fun E q h' x => x)
theorem xw_tXvu1 {ci : Nat} {M' : xm_M} {d' mc ms : Nat} {X : xm_X} {Qf : xm_H → Prop} {a1 : Value} {u : Unit} (hi : xm_Imp g Γ pc (xi_virX g ci M' d' 1 n X)) (hs : xm_stk 1 (a1 :: va_rf o :: st) = true) (ho : o = some a) (hc : xh_is ci h a = some u) (h1 : mc ≤ bc) (h2 : ms ≤ bs) (hr : xm_Run g M' d' [.ref a, a1] h mc ms (fun v h' => v = none ∧ Qf h') X) (k : ∀ h', Qf h' → xm_W g Γ n ls st h' (bc - mc) (bs - ms)) : xm_W g Γ pc ls (a1 :: va_rf o :: st) h bc bs := by
  subst ho
  obtain ⟨w, fs, q⟩ := xh_is_s hc
  refine xm_use hi ⟨hs, w, fs, mc, ms, q, ⟨h1, h2⟩, ?_⟩
  exact xm_Run.mono hr (fun v h' q => by
    obtain ⟨rfl, q⟩ := q
    exact k h' q) (fun E q h' x => x)
theorem xw_tHvu1 {ci : Nat} {M' : xm_M} {d' mc ms : Nat} {XH : xm_X} {hs0 : List (String × Nat)} {Qf : xm_H → Prop} {a1 : Value} {u : Unit} (hi : xm_Imp g Γ pc (xi_virH g ci M' d' 1 n hs0)) (hs : xm_stk 1 (a1 :: va_rf o :: st) = true) (ho : o = some a) (hc : xh_is ci h a = some u) (h1 : mc ≤ bc) (h2 : ms ≤ bs) (hr : xm_Run g M' d' [.ref a, a1] h mc ms (fun v h' => v = none ∧ Qf h') XH) (k : ∀ h', Qf h' → xm_W g Γ n ls st h' (bc - mc) (bs - ms)) (kx : ∀ E q h', XH E q h' → xm_hnd hs0 E (fun t => xm_W g Γ t ls [.ref q] h' (bc - mc) (bs - ms))) : xm_W g Γ pc ls (a1 :: va_rf o :: st) h bc bs := by
  subst ho
  obtain ⟨w, fs, q⟩ := xh_is_s hc
  refine xm_use hi ⟨hs, w, fs, mc, ms, q, ⟨h1, h2⟩, ?_⟩
  exact xm_Run.mono hr (fun v h' q => by
    obtain ⟨rfl, q⟩ := q
    exact k h' q) kx
theorem xw_tpu1 {M' : xm_M} {d' mc ms : Nat} {Qf : xm_H → Prop} {a1 : Value} (hi : xm_Imp g Γ pc (xi_spe g M' d' 1 n)) (hs : xm_stk 1 (a1 :: va_rf o :: st) = true) (ho : o = some a) (h1 : mc ≤ bc) (h2 : ms ≤ bs) (hr : xm_Run g M' d' [.ref a, a1] h mc ms (fun v h' => v = none ∧ Qf h') xm_no) (k : ∀ h', Qf h' → xm_W g Γ n ls st h' (bc - mc) (bs - ms)) : xm_W g Γ pc ls (a1 :: va_rf o :: st) h bc bs := by
  subst ho
  refine xm_use hi ⟨hs, mc, ms, ⟨h1, h2⟩, ?_⟩
  exact xm_Run.mono hr (fun v h' q => by
    obtain ⟨rfl, q⟩ := q
    exact k h' q) (fun E q h' x => x)
theorem xw_hv2 {ci : Nat} {M' : xm_M} {d' : Nat} {h' : xm_H} {a1 a2 : Value} {r : Value} {u : Unit} (hi : xm_Imp g Γ pc (xi_vir g ci M' d' 2 n)) (hs : xm_stk 2 (a2 :: a1 :: va_rf o :: st) = true) (ho : o = some a) (hc : xh_is ci h a = some u) (hr : ∀ (Q : xm_P) (X : xm_X), Q (some r) h' → xm_Run g M' d' [.ref a, a1, a2] h 0 0 Q X) (k : xm_W g Γ n ls (r :: st) h' bc bs) : xm_W g Γ pc ls (a2 :: a1 :: va_rf o :: st) h bc bs := by
  subst ho
  obtain ⟨w, fs, q⟩ := xh_is_s hc
  exact xm_use hi ⟨hs, w, fs, 0, 0, q, ⟨Nat.zero_le _, Nat.zero_le _⟩, hr _ _ k⟩
theorem xw_pv2 {M' : xm_M} {d' : Nat} {h' : xm_H} {a1 a2 : Value} {r : Value} (hi : xm_Imp g Γ pc (xi_spe g M' d' 2 n)) (hs : xm_stk 2 (a2 :: a1 :: va_rf o :: st) = true) (ho : o = some a) (hr : ∀ (Q : xm_P) (X : xm_X), Q (some r) h' → xm_Run g M' d' [.ref a, a1, a2] h 0 0 Q X) (k : xm_W g Γ n ls (r :: st) h' bc bs) : xm_W g Γ pc ls (a2 :: a1 :: va_rf o :: st) h bc bs := by
  subst ho
  exact xm_use hi ⟨hs, 0, 0, ⟨Nat.zero_le _, Nat.zero_le _⟩, hr _ _ k⟩
theorem xw_hu2 {ci : Nat} {M' : xm_M} {d' : Nat} {h' : xm_H} {a1 a2 : Value} {u : Unit} (hi : xm_Imp g Γ pc (xi_vir g ci M' d' 2 n)) (hs : xm_stk 2 (a2 :: a1 :: va_rf o :: st) = true) (ho : o = some a) (hc : xh_is ci h a = some u) (hr : ∀ (Q : xm_P) (X : xm_X), Q (none) h' → xm_Run g M' d' [.ref a, a1, a2] h 0 0 Q X) (k : xm_W g Γ n ls (st) h' bc bs) : xm_W g Γ pc ls (a2 :: a1 :: va_rf o :: st) h bc bs := by
  subst ho
  obtain ⟨w, fs, q⟩ := xh_is_s hc
  exact xm_use hi ⟨hs, w, fs, 0, 0, q, ⟨Nat.zero_le _, Nat.zero_le _⟩, hr _ _ k⟩
theorem xw_pu2 {M' : xm_M} {d' : Nat} {h' : xm_H} {a1 a2 : Value} (hi : xm_Imp g Γ pc (xi_spe g M' d' 2 n)) (hs : xm_stk 2 (a2 :: a1 :: va_rf o :: st) = true) (ho : o = some a) (hr : ∀ (Q : xm_P) (X : xm_X), Q (none) h' → xm_Run g M' d' [.ref a, a1, a2] h 0 0 Q X) (k : xm_W g Γ n ls (st) h' bc bs) : xm_W g Γ pc ls (a2 :: a1 :: va_rf o :: st) h bc bs := by
  subst ho
  exact xm_use hi ⟨hs, 0, 0, ⟨Nat.zero_le _, Nat.zero_le _⟩, hr _ _ k⟩
theorem xw_tsi2 {M' : xm_M} {d' mc ms : Nat} {Qf : Int32 → xm_H → Prop} {a1 a2 : Value} (hi : xm_Imp g Γ pc (xi_inv g M' d' 2 n)) (hs : xm_stk 2 (a2 :: a1 :: st) = true) (h1 : mc ≤ bc) (h2 : ms ≤ bs) (hr : xm_Run g M' d' [a1, a2] h mc ms (fun v h' => ∃ r, v = some (.int r) ∧ Qf r h') xm_no) (k : ∀ r h', Qf r h' → xm_W g Γ n ls (.int r :: st) h' (bc - mc) (bs - ms)) : xm_W g Γ pc ls (a2 :: a1 :: st) h bc bs := by
  refine xm_use hi ⟨hs, mc, ms, ⟨h1, h2⟩, ?_⟩
  exact xm_Run.mono hr (fun v h' q => by
    obtain ⟨r, rfl, q⟩ := q
    exact k r h' q) (fun E q h' x => x)
theorem xw_tvi2 {ci : Nat} {M' : xm_M} {d' mc ms : Nat} {Qf : Int32 → xm_H → Prop} {a1 a2 : Value} {u : Unit} (hi : xm_Imp g Γ pc (xi_vir g ci M' d' 2 n)) (hs : xm_stk 2 (a2 :: a1 :: va_rf o :: st) = true) (ho : o = some a) (hc : xh_is ci h a = some u) (h1 : mc ≤ bc) (h2 : ms ≤ bs) (hr : xm_Run g M' d' [.ref a, a1, a2] h mc ms (fun v h' => ∃ r, v = some (.int r) ∧ Qf r h') xm_no) (k : ∀ r h', Qf r h' → xm_W g Γ n ls (.int r :: st) h' (bc - mc) (bs - ms)) : xm_W g Γ pc ls (a2 :: a1 :: va_rf o :: st) h bc bs := by
  subst ho
  obtain ⟨w, fs, q⟩ := xh_is_s hc
  refine xm_use hi ⟨hs, w, fs, mc, ms, q, ⟨h1, h2⟩, ?_⟩
  exact xm_Run.mono hr (fun v h' q => by
    obtain ⟨r, rfl, q⟩ := q
    exact k r h' q) (fun E q h' x => x)
theorem xw_tXsi2 {M' : xm_M} {d' mc ms : Nat} {X : xm_X} {Qf : Int32 → xm_H → Prop} {a1 a2 : Value} (hi : xm_Imp g Γ pc (xi_invX g M' d' 2 n X)) (hs : xm_stk 2 (a2 :: a1 :: st) = true) (h1 : mc ≤ bc) (h2 : ms ≤ bs) (hr : xm_Run g M' d' [a1, a2] h mc ms (fun v h' => ∃ r, v = some (.int r) ∧ Qf r h') X) (k : ∀ r h', Qf r h' → xm_W g Γ n ls (.int r :: st) h' (bc - mc) (bs - ms)) : xm_W g Γ pc ls (a2 :: a1 :: st) h bc bs := by
  refine xm_use hi ⟨hs, mc, ms, ⟨h1, h2⟩, ?_⟩
  exact xm_Run.mono hr (fun v h' q => by
    obtain ⟨r, rfl, q⟩ := q
    exact k r h' q) (fun E q h' x => x)
theorem xw_tXvi2 {ci : Nat} {M' : xm_M} {d' mc ms : Nat} {X : xm_X} {Qf : Int32 → xm_H → Prop} {a1 a2 : Value} {u : Unit} (hi : xm_Imp g Γ pc (xi_virX g ci M' d' 2 n X)) (hs : xm_stk 2 (a2 :: a1 :: va_rf o :: st) = true) (ho : o = some a) (hc : xh_is ci h a = some u) (h1 : mc ≤ bc) (h2 : ms ≤ bs) (hr : xm_Run g M' d' [.ref a, a1, a2] h mc ms (fun v h' => ∃ r, v = some (.int r) ∧ Qf r h') X) (k : ∀ r h', Qf r h' → xm_W g Γ n ls (.int r :: st) h' (bc - mc) (bs - ms)) : xm_W g Γ pc ls (a2 :: a1 :: va_rf o :: st) h bc bs := by
  subst ho
  obtain ⟨w, fs, q⟩ := xh_is_s hc
  refine xm_use hi ⟨hs, w, fs, mc, ms, q, ⟨h1, h2⟩, ?_⟩
  exact xm_Run.mono hr (fun v h' q => by
    obtain ⟨r, rfl, q⟩ := q
    exact k r h' q) (fun E q h' x => x)
theorem xw_tHvi2 {ci : Nat} {M' : xm_M} {d' mc ms : Nat} {XH : xm_X} {hs0 : List (String × Nat)} {Qf : Int32 → xm_H → Prop} {a1 a2 : Value} {u : Unit} (hi : xm_Imp g Γ pc (xi_virH g ci M' d' 2 n hs0)) (hs : xm_stk 2 (a2 :: a1 :: va_rf o :: st) = true) (ho : o = some a) (hc : xh_is ci h a = some u) (h1 : mc ≤ bc) (h2 : ms ≤ bs) (hr : xm_Run g M' d' [.ref a, a1, a2] h mc ms (fun v h' => ∃ r, v = some (.int r) ∧ Qf r h') XH) (k : ∀ r h', Qf r h' → xm_W g Γ n ls (.int r :: st) h' (bc - mc) (bs - ms)) (kx : ∀ E q h', XH E q h' → xm_hnd hs0 E (fun t => xm_W g Γ t ls [.ref q] h' (bc - mc) (bs - ms))) : xm_W g Γ pc ls (a2 :: a1 :: va_rf o :: st) h bc bs := by
  subst ho
  obtain ⟨w, fs, q⟩ := xh_is_s hc
  refine xm_use hi ⟨hs, w, fs, mc, ms, q, ⟨h1, h2⟩, ?_⟩
  exact xm_Run.mono hr (fun v h' q => by
    obtain ⟨r, rfl, q⟩ := q
    exact k r h' q) kx
theorem xw_tpi2 {M' : xm_M} {d' mc ms : Nat} {Qf : Int32 → xm_H → Prop} {a1 a2 : Value} (hi : xm_Imp g Γ pc (xi_spe g M' d' 2 n)) (hs : xm_stk 2 (a2 :: a1 :: va_rf o :: st) = true) (ho : o = some a) (h1 : mc ≤ bc) (h2 : ms ≤ bs) (hr : xm_Run g M' d' [.ref a, a1, a2] h mc ms (fun v h' => ∃ r, v = some (.int r) ∧ Qf r h') xm_no) (k : ∀ r h', Qf r h' → xm_W g Γ n ls (.int r :: st) h' (bc - mc) (bs - ms)) : xm_W g Γ pc ls (a2 :: a1 :: va_rf o :: st) h bc bs := by
  subst ho
  refine xm_use hi ⟨hs, mc, ms, ⟨h1, h2⟩, ?_⟩
  exact xm_Run.mono hr (fun v h' q => by
    obtain ⟨r, rfl, q⟩ := q
    exact k r h' q) (fun E q h' x => x)
theorem xw_tsl2 {M' : xm_M} {d' mc ms : Nat} {Qf : Int64 → xm_H → Prop} {a1 a2 : Value} (hi : xm_Imp g Γ pc (xi_inv g M' d' 2 n)) (hs : xm_stk 2 (a2 :: a1 :: st) = true) (h1 : mc ≤ bc) (h2 : ms ≤ bs) (hr : xm_Run g M' d' [a1, a2] h mc ms (fun v h' => ∃ r, v = some (.long r) ∧ Qf r h') xm_no) (k : ∀ r h', Qf r h' → xm_W g Γ n ls (.long r :: st) h' (bc - mc) (bs - ms)) : xm_W g Γ pc ls (a2 :: a1 :: st) h bc bs := by
  refine xm_use hi ⟨hs, mc, ms, ⟨h1, h2⟩, ?_⟩
  exact xm_Run.mono hr (fun v h' q => by
    obtain ⟨r, rfl, q⟩ := q
    exact k r h' q) (fun E q h' x => x)
theorem xw_tvl2 {ci : Nat} {M' : xm_M} {d' mc ms : Nat} {Qf : Int64 → xm_H → Prop} {a1 a2 : Value} {u : Unit} (hi : xm_Imp g Γ pc (xi_vir g ci M' d' 2 n)) (hs : xm_stk 2 (a2 :: a1 :: va_rf o :: st) = true) (ho : o = some a) (hc : xh_is ci h a = some u) (h1 : mc ≤ bc) (h2 : ms ≤ bs) (hr : xm_Run g M' d' [.ref a, a1, a2] h mc ms (fun v h' => ∃ r, v = some (.long r) ∧ Qf r h') xm_no) (k : ∀ r h', Qf r h' → xm_W g Γ n ls (.long r :: st) h' (bc - mc) (bs - ms)) : xm_W g Γ pc ls (a2 :: a1 :: va_rf o :: st) h bc bs := by
  subst ho
  obtain ⟨w, fs, q⟩ := xh_is_s hc
  refine xm_use hi ⟨hs, w, fs, mc, ms, q, ⟨h1, h2⟩, ?_⟩
  exact xm_Run.mono hr (fun v h' q => by
    obtain ⟨r, rfl, q⟩ := q
    exact k r h' q) (fun E q h' x => x)
theorem xw_tXsl2 {M' : xm_M} {d' mc ms : Nat} {X : xm_X} {Qf : Int64 → xm_H → Prop} {a1 a2 : Value} (hi : xm_Imp g Γ pc (xi_invX g M' d' 2 n X)) (hs : xm_stk 2 (a2 :: a1 :: st) = true) (h1 : mc ≤ bc) (h2 : ms ≤ bs) (hr : xm_Run g M' d' [a1, a2] h mc ms (fun v h' => ∃ r, v = some (.long r) ∧ Qf r h') X) (k : ∀ r h', Qf r h' → xm_W g Γ n ls (.long r :: st) h' (bc - mc) (bs - ms)) : xm_W g Γ pc ls (a2 :: a1 :: st) h bc bs := by
  refine xm_use hi ⟨hs, mc, ms, ⟨h1, h2⟩, ?_⟩
  exact xm_Run.mono hr (fun v h' q => by
    obtain ⟨r, rfl, q⟩ := q
    exact k r h' q) (fun E q h' x => x)
theorem xw_tXvl2 {ci : Nat} {M' : xm_M} {d' mc ms : Nat} {X : xm_X} {Qf : Int64 → xm_H → Prop} {a1 a2 : Value} {u : Unit} (hi : xm_Imp g Γ pc (xi_virX g ci M' d' 2 n X)) (hs : xm_stk 2 (a2 :: a1 :: va_rf o :: st) = true) (ho : o = some a) (hc : xh_is ci h a = some u) (h1 : mc ≤ bc) (h2 : ms ≤ bs) (hr : xm_Run g M' d' [.ref a, a1, a2] h mc ms (fun v h' => ∃ r, v = some (.long r) ∧ Qf r h') X) (k : ∀ r h', Qf r h' → xm_W g Γ n ls (.long r :: st) h' (bc - mc) (bs - ms)) : xm_W g Γ pc ls (a2 :: a1 :: va_rf o :: st) h bc bs := by
  subst ho
  obtain ⟨w, fs, q⟩ := xh_is_s hc
  refine xm_use hi ⟨hs, w, fs, mc, ms, q, ⟨h1, h2⟩, ?_⟩
  exact xm_Run.mono hr (fun v h' q => by
    obtain ⟨r, rfl, q⟩ := q
    exact k r h' q) (fun E q h' x => x)
theorem xw_tHvl2 {ci : Nat} {M' : xm_M} {d' mc ms : Nat} {XH : xm_X} {hs0 : List (String × Nat)} {Qf : Int64 → xm_H → Prop} {a1 a2 : Value} {u : Unit} (hi : xm_Imp g Γ pc (xi_virH g ci M' d' 2 n hs0)) (hs : xm_stk 2 (a2 :: a1 :: va_rf o :: st) = true) (ho : o = some a) (hc : xh_is ci h a = some u) (h1 : mc ≤ bc) (h2 : ms ≤ bs) (hr : xm_Run g M' d' [.ref a, a1, a2] h mc ms (fun v h' => ∃ r, v = some (.long r) ∧ Qf r h') XH) (k : ∀ r h', Qf r h' → xm_W g Γ n ls (.long r :: st) h' (bc - mc) (bs - ms)) (kx : ∀ E q h', XH E q h' → xm_hnd hs0 E (fun t => xm_W g Γ t ls [.ref q] h' (bc - mc) (bs - ms))) : xm_W g Γ pc ls (a2 :: a1 :: va_rf o :: st) h bc bs := by
  subst ho
  obtain ⟨w, fs, q⟩ := xh_is_s hc
  refine xm_use hi ⟨hs, w, fs, mc, ms, q, ⟨h1, h2⟩, ?_⟩
  exact xm_Run.mono hr (fun v h' q => by
    obtain ⟨r, rfl, q⟩ := q
    exact k r h' q) kx
theorem xw_tpl2 {M' : xm_M} {d' mc ms : Nat} {Qf : Int64 → xm_H → Prop} {a1 a2 : Value} (hi : xm_Imp g Γ pc (xi_spe g M' d' 2 n)) (hs : xm_stk 2 (a2 :: a1 :: va_rf o :: st) = true) (ho : o = some a) (h1 : mc ≤ bc) (h2 : ms ≤ bs) (hr : xm_Run g M' d' [.ref a, a1, a2] h mc ms (fun v h' => ∃ r, v = some (.long r) ∧ Qf r h') xm_no) (k : ∀ r h', Qf r h' → xm_W g Γ n ls (.long r :: st) h' (bc - mc) (bs - ms)) : xm_W g Γ pc ls (a2 :: a1 :: va_rf o :: st) h bc bs := by
  subst ho
  refine xm_use hi ⟨hs, mc, ms, ⟨h1, h2⟩, ?_⟩
  exact xm_Run.mono hr (fun v h' q => by
    obtain ⟨r, rfl, q⟩ := q
    exact k r h' q) (fun E q h' x => x)
theorem xw_tsf2 {M' : xm_M} {d' mc ms : Nat} {Qf : UInt32 → xm_H → Prop} {a1 a2 : Value} (hi : xm_Imp g Γ pc (xi_inv g M' d' 2 n)) (hs : xm_stk 2 (a2 :: a1 :: st) = true) (h1 : mc ≤ bc) (h2 : ms ≤ bs) (hr : xm_Run g M' d' [a1, a2] h mc ms (fun v h' => ∃ r, v = some (.float r) ∧ Qf r h') xm_no) (k : ∀ r h', Qf r h' → xm_W g Γ n ls (.float r :: st) h' (bc - mc) (bs - ms)) : xm_W g Γ pc ls (a2 :: a1 :: st) h bc bs := by
  refine xm_use hi ⟨hs, mc, ms, ⟨h1, h2⟩, ?_⟩
  exact xm_Run.mono hr (fun v h' q => by
    obtain ⟨r, rfl, q⟩ := q
    exact k r h' q) (fun E q h' x => x)
theorem xw_tvf2 {ci : Nat} {M' : xm_M} {d' mc ms : Nat} {Qf : UInt32 → xm_H → Prop} {a1 a2 : Value} {u : Unit} (hi : xm_Imp g Γ pc (xi_vir g ci M' d' 2 n)) (hs : xm_stk 2 (a2 :: a1 :: va_rf o :: st) = true) (ho : o = some a) (hc : xh_is ci h a = some u) (h1 : mc ≤ bc) (h2 : ms ≤ bs) (hr : xm_Run g M' d' [.ref a, a1, a2] h mc ms (fun v h' => ∃ r, v = some (.float r) ∧ Qf r h') xm_no) (k : ∀ r h', Qf r h' → xm_W g Γ n ls (.float r :: st) h' (bc - mc) (bs - ms)) : xm_W g Γ pc ls (a2 :: a1 :: va_rf o :: st) h bc bs := by
  subst ho
  obtain ⟨w, fs, q⟩ := xh_is_s hc
  refine xm_use hi ⟨hs, w, fs, mc, ms, q, ⟨h1, h2⟩, ?_⟩
  exact xm_Run.mono hr (fun v h' q => by
    obtain ⟨r, rfl, q⟩ := q
    exact k r h' q) (fun E q h' x => x)
theorem xw_tXsf2 {M' : xm_M} {d' mc ms : Nat} {X : xm_X} {Qf : UInt32 → xm_H → Prop} {a1 a2 : Value} (hi : xm_Imp g Γ pc (xi_invX g M' d' 2 n X)) (hs : xm_stk 2 (a2 :: a1 :: st) = true) (h1 : mc ≤ bc) (h2 : ms ≤ bs) (hr : xm_Run g M' d' [a1, a2] h mc ms (fun v h' => ∃ r, v = some (.float r) ∧ Qf r h') X) (k : ∀ r h', Qf r h' → xm_W g Γ n ls (.float r :: st) h' (bc - mc) (bs - ms)) : xm_W g Γ pc ls (a2 :: a1 :: st) h bc bs := by
  refine xm_use hi ⟨hs, mc, ms, ⟨h1, h2⟩, ?_⟩
  exact xm_Run.mono hr (fun v h' q => by
    obtain ⟨r, rfl, q⟩ := q
    exact k r h' q) (fun E q h' x => x)
theorem xw_tXvf2 {ci : Nat} {M' : xm_M} {d' mc ms : Nat} {X : xm_X} {Qf : UInt32 → xm_H → Prop} {a1 a2 : Value} {u : Unit} (hi : xm_Imp g Γ pc (xi_virX g ci M' d' 2 n X)) (hs : xm_stk 2 (a2 :: a1 :: va_rf o :: st) = true) (ho : o = some a) (hc : xh_is ci h a = some u) (h1 : mc ≤ bc) (h2 : ms ≤ bs) (hr : xm_Run g M' d' [.ref a, a1, a2] h mc ms (fun v h' => ∃ r, v = some (.float r) ∧ Qf r h') X) (k : ∀ r h', Qf r h' → xm_W g Γ n ls (.float r :: st) h' (bc - mc) (bs - ms)) : xm_W g Γ pc ls (a2 :: a1 :: va_rf o :: st) h bc bs := by
  subst ho
  obtain ⟨w, fs, q⟩ := xh_is_s hc
  refine xm_use hi ⟨hs, w, fs, mc, ms, q, ⟨h1, h2⟩, ?_⟩
  exact xm_Run.mono hr (fun v h' q => by
    obtain ⟨r, rfl, q⟩ := q
    exact k r h' q) (fun E q h' x => x)
theorem xw_tHvf2 {ci : Nat} {M' : xm_M} {d' mc ms : Nat} {XH : xm_X} {hs0 : List (String × Nat)} {Qf : UInt32 → xm_H → Prop} {a1 a2 : Value} {u : Unit} (hi : xm_Imp g Γ pc (xi_virH g ci M' d' 2 n hs0)) (hs : xm_stk 2 (a2 :: a1 :: va_rf o :: st) = true) (ho : o = some a) (hc : xh_is ci h a = some u) (h1 : mc ≤ bc) (h2 : ms ≤ bs) (hr : xm_Run g M' d' [.ref a, a1, a2] h mc ms (fun v h' => ∃ r, v = some (.float r) ∧ Qf r h') XH) (k : ∀ r h', Qf r h' → xm_W g Γ n ls (.float r :: st) h' (bc - mc) (bs - ms)) (kx : ∀ E q h', XH E q h' → xm_hnd hs0 E (fun t => xm_W g Γ t ls [.ref q] h' (bc - mc) (bs - ms))) : xm_W g Γ pc ls (a2 :: a1 :: va_rf o :: st) h bc bs := by
  subst ho
  obtain ⟨w, fs, q⟩ := xh_is_s hc
  refine xm_use hi ⟨hs, w, fs, mc, ms, q, ⟨h1, h2⟩, ?_⟩
  exact xm_Run.mono hr (fun v h' q => by
    obtain ⟨r, rfl, q⟩ := q
    exact k r h' q) kx
theorem xw_tpf2 {M' : xm_M} {d' mc ms : Nat} {Qf : UInt32 → xm_H → Prop} {a1 a2 : Value} (hi : xm_Imp g Γ pc (xi_spe g M' d' 2 n)) (hs : xm_stk 2 (a2 :: a1 :: va_rf o :: st) = true) (ho : o = some a) (h1 : mc ≤ bc) (h2 : ms ≤ bs) (hr : xm_Run g M' d' [.ref a, a1, a2] h mc ms (fun v h' => ∃ r, v = some (.float r) ∧ Qf r h') xm_no) (k : ∀ r h', Qf r h' → xm_W g Γ n ls (.float r :: st) h' (bc - mc) (bs - ms)) : xm_W g Γ pc ls (a2 :: a1 :: va_rf o :: st) h bc bs := by
  subst ho
  refine xm_use hi ⟨hs, mc, ms, ⟨h1, h2⟩, ?_⟩
  exact xm_Run.mono hr (fun v h' q => by
    obtain ⟨r, rfl, q⟩ := q
    exact k r h' q) (fun E q h' x => x)
theorem xw_tsd2 {M' : xm_M} {d' mc ms : Nat} {Qf : UInt64 → xm_H → Prop} {a1 a2 : Value} (hi : xm_Imp g Γ pc (xi_inv g M' d' 2 n)) (hs : xm_stk 2 (a2 :: a1 :: st) = true) (h1 : mc ≤ bc) (h2 : ms ≤ bs) (hr : xm_Run g M' d' [a1, a2] h mc ms (fun v h' => ∃ r, v = some (.double r) ∧ Qf r h') xm_no) (k : ∀ r h', Qf r h' → xm_W g Γ n ls (.double r :: st) h' (bc - mc) (bs - ms)) : xm_W g Γ pc ls (a2 :: a1 :: st) h bc bs := by
  refine xm_use hi ⟨hs, mc, ms, ⟨h1, h2⟩, ?_⟩
  exact xm_Run.mono hr (fun v h' q => by
    obtain ⟨r, rfl, q⟩ := q
    exact k r h' q) (fun E q h' x => x)
theorem xw_tvd2 {ci : Nat} {M' : xm_M} {d' mc ms : Nat} {Qf : UInt64 → xm_H → Prop} {a1 a2 : Value} {u : Unit} (hi : xm_Imp g Γ pc (xi_vir g ci M' d' 2 n)) (hs : xm_stk 2 (a2 :: a1 :: va_rf o :: st) = true) (ho : o = some a) (hc : xh_is ci h a = some u) (h1 : mc ≤ bc) (h2 : ms ≤ bs) (hr : xm_Run g M' d' [.ref a, a1, a2] h mc ms (fun v h' => ∃ r, v = some (.double r) ∧ Qf r h') xm_no) (k : ∀ r h', Qf r h' → xm_W g Γ n ls (.double r :: st) h' (bc - mc) (bs - ms)) : xm_W g Γ pc ls (a2 :: a1 :: va_rf o :: st) h bc bs := by
  subst ho
  obtain ⟨w, fs, q⟩ := xh_is_s hc
  refine xm_use hi ⟨hs, w, fs, mc, ms, q, ⟨h1, h2⟩, ?_⟩
  exact xm_Run.mono hr (fun v h' q => by
    obtain ⟨r, rfl, q⟩ := q
    exact k r h' q) (fun E q h' x => x)
theorem xw_tXsd2 {M' : xm_M} {d' mc ms : Nat} {X : xm_X} {Qf : UInt64 → xm_H → Prop} {a1 a2 : Value} (hi : xm_Imp g Γ pc (xi_invX g M' d' 2 n X)) (hs : xm_stk 2 (a2 :: a1 :: st) = true) (h1 : mc ≤ bc) (h2 : ms ≤ bs) (hr : xm_Run g M' d' [a1, a2] h mc ms (fun v h' => ∃ r, v = some (.double r) ∧ Qf r h') X) (k : ∀ r h', Qf r h' → xm_W g Γ n ls (.double r :: st) h' (bc - mc) (bs - ms)) : xm_W g Γ pc ls (a2 :: a1 :: st) h bc bs := by
  refine xm_use hi ⟨hs, mc, ms, ⟨h1, h2⟩, ?_⟩
  exact xm_Run.mono hr (fun v h' q => by
    obtain ⟨r, rfl, q⟩ := q
    exact k r h' q) (fun E q h' x => x)
theorem xw_tXvd2 {ci : Nat} {M' : xm_M} {d' mc ms : Nat} {X : xm_X} {Qf : UInt64 → xm_H → Prop} {a1 a2 : Value} {u : Unit} (hi : xm_Imp g Γ pc (xi_virX g ci M' d' 2 n X)) (hs : xm_stk 2 (a2 :: a1 :: va_rf o :: st) = true) (ho : o = some a) (hc : xh_is ci h a = some u) (h1 : mc ≤ bc) (h2 : ms ≤ bs) (hr : xm_Run g M' d' [.ref a, a1, a2] h mc ms (fun v h' => ∃ r, v = some (.double r) ∧ Qf r h') X) (k : ∀ r h', Qf r h' → xm_W g Γ n ls (.double r :: st) h' (bc - mc) (bs - ms)) : xm_W g Γ pc ls (a2 :: a1 :: va_rf o :: st) h bc bs := by
  subst ho
  obtain ⟨w, fs, q⟩ := xh_is_s hc
  refine xm_use hi ⟨hs, w, fs, mc, ms, q, ⟨h1, h2⟩, ?_⟩
  exact xm_Run.mono hr (fun v h' q => by
    obtain ⟨r, rfl, q⟩ := q
    exact k r h' q) (fun E q h' x => x)
theorem xw_tHvd2 {ci : Nat} {M' : xm_M} {d' mc ms : Nat} {XH : xm_X} {hs0 : List (String × Nat)} {Qf : UInt64 → xm_H → Prop} {a1 a2 : Value} {u : Unit} (hi : xm_Imp g Γ pc (xi_virH g ci M' d' 2 n hs0)) (hs : xm_stk 2 (a2 :: a1 :: va_rf o :: st) = true) (ho : o = some a) (hc : xh_is ci h a = some u) (h1 : mc ≤ bc) (h2 : ms ≤ bs) (hr : xm_Run g M' d' [.ref a, a1, a2] h mc ms (fun v h' => ∃ r, v = some (.double r) ∧ Qf r h') XH) (k : ∀ r h', Qf r h' → xm_W g Γ n ls (.double r :: st) h' (bc - mc) (bs - ms)) (kx : ∀ E q h', XH E q h' → xm_hnd hs0 E (fun t => xm_W g Γ t ls [.ref q] h' (bc - mc) (bs - ms))) : xm_W g Γ pc ls (a2 :: a1 :: va_rf o :: st) h bc bs := by
  subst ho
  obtain ⟨w, fs, q⟩ := xh_is_s hc
  refine xm_use hi ⟨hs, w, fs, mc, ms, q, ⟨h1, h2⟩, ?_⟩
  exact xm_Run.mono hr (fun v h' q => by
    obtain ⟨r, rfl, q⟩ := q
    exact k r h' q) kx
theorem xw_tpd2 {M' : xm_M} {d' mc ms : Nat} {Qf : UInt64 → xm_H → Prop} {a1 a2 : Value} (hi : xm_Imp g Γ pc (xi_spe g M' d' 2 n)) (hs : xm_stk 2 (a2 :: a1 :: va_rf o :: st) = true) (ho : o = some a) (h1 : mc ≤ bc) (h2 : ms ≤ bs) (hr : xm_Run g M' d' [.ref a, a1, a2] h mc ms (fun v h' => ∃ r, v = some (.double r) ∧ Qf r h') xm_no) (k : ∀ r h', Qf r h' → xm_W g Γ n ls (.double r :: st) h' (bc - mc) (bs - ms)) : xm_W g Γ pc ls (a2 :: a1 :: va_rf o :: st) h bc bs := by
  subst ho
  refine xm_use hi ⟨hs, mc, ms, ⟨h1, h2⟩, ?_⟩
  exact xm_Run.mono hr (fun v h' q => by
    obtain ⟨r, rfl, q⟩ := q
    exact k r h' q) (fun E q h' x => x)
theorem xw_tsr2 {M' : xm_M} {d' mc ms : Nat} {Qf : Option Nat → xm_H → Prop} {a1 a2 : Value} (hi : xm_Imp g Γ pc (xi_inv g M' d' 2 n)) (hs : xm_stk 2 (a2 :: a1 :: st) = true) (h1 : mc ≤ bc) (h2 : ms ≤ bs) (hr : xm_Run g M' d' [a1, a2] h mc ms (fun v h' => ∃ r, v = some (va_rf r) ∧ Qf r h') xm_no) (k : ∀ r h', Qf r h' → xm_W g Γ n ls (va_rf r :: st) h' (bc - mc) (bs - ms)) : xm_W g Γ pc ls (a2 :: a1 :: st) h bc bs := by
  refine xm_use hi ⟨hs, mc, ms, ⟨h1, h2⟩, ?_⟩
  exact xm_Run.mono hr (fun v h' q => by
    obtain ⟨r, rfl, q⟩ := q
    exact k r h' q) (fun E q h' x => x)
theorem xw_tvr2 {ci : Nat} {M' : xm_M} {d' mc ms : Nat} {Qf : Option Nat → xm_H → Prop} {a1 a2 : Value} {u : Unit} (hi : xm_Imp g Γ pc (xi_vir g ci M' d' 2 n)) (hs : xm_stk 2 (a2 :: a1 :: va_rf o :: st) = true) (ho : o = some a) (hc : xh_is ci h a = some u) (h1 : mc ≤ bc) (h2 : ms ≤ bs) (hr : xm_Run g M' d' [.ref a, a1, a2] h mc ms (fun v h' => ∃ r, v = some (va_rf r) ∧ Qf r h') xm_no) (k : ∀ r h', Qf r h' → xm_W g Γ n ls (va_rf r :: st) h' (bc - mc) (bs - ms)) : xm_W g Γ pc ls (a2 :: a1 :: va_rf o :: st) h bc bs := by
  subst ho
  obtain ⟨w, fs, q⟩ := xh_is_s hc
  refine xm_use hi ⟨hs, w, fs, mc, ms, q, ⟨h1, h2⟩, ?_⟩
  exact xm_Run.mono hr (fun v h' q => by
    obtain ⟨r, rfl, q⟩ := q
    exact k r h' q) (fun E q h' x => x)
theorem xw_tXsr2 {M' : xm_M} {d' mc ms : Nat} {X : xm_X} {Qf : Option Nat → xm_H → Prop} {a1 a2 : Value} (hi : xm_Imp g Γ pc (xi_invX g M' d' 2 n X)) (hs : xm_stk 2 (a2 :: a1 :: st) = true) (h1 : mc ≤ bc) (h2 : ms ≤ bs) (hr : xm_Run g M' d' [a1, a2] h mc ms (fun v h' => ∃ r, v = some (va_rf r) ∧ Qf r h') X) (k : ∀ r h', Qf r h' → xm_W g Γ n ls (va_rf r :: st) h' (bc - mc) (bs - ms)) : xm_W g Γ pc ls (a2 :: a1 :: st) h bc bs := by
  refine xm_use hi ⟨hs, mc, ms, ⟨h1, h2⟩, ?_⟩
  exact xm_Run.mono hr (fun v h' q => by
    obtain ⟨r, rfl, q⟩ := q
    exact k r h' q) (fun E q h' x => x)
theorem xw_tXvr2 {ci : Nat} {M' : xm_M} {d' mc ms : Nat} {X : xm_X} {Qf : Option Nat → xm_H → Prop} {a1 a2 : Value} {u : Unit} (hi : xm_Imp g Γ pc (xi_virX g ci M' d' 2 n X)) (hs : xm_stk 2 (a2 :: a1 :: va_rf o :: st) = true) (ho : o = some a) (hc : xh_is ci h a = some u) (h1 : mc ≤ bc) (h2 : ms ≤ bs) (hr : xm_Run g M' d' [.ref a, a1, a2] h mc ms (fun v h' => ∃ r, v = some (va_rf r) ∧ Qf r h') X) (k : ∀ r h', Qf r h' → xm_W g Γ n ls (va_rf r :: st) h' (bc - mc) (bs - ms)) : xm_W g Γ pc ls (a2 :: a1 :: va_rf o :: st) h bc bs := by
  subst ho
  obtain ⟨w, fs, q⟩ := xh_is_s hc
  refine xm_use hi ⟨hs, w, fs, mc, ms, q, ⟨h1, h2⟩, ?_⟩
  exact xm_Run.mono hr (fun v h' q => by
    obtain ⟨r, rfl, q⟩ := q
    exact k r h' q) (fun E q h' x => x)
theorem xw_tHvr2 {ci : Nat} {M' : xm_M} {d' mc ms : Nat} {XH : xm_X} {hs0 : List (String × Nat)} {Qf : Option Nat → xm_H → Prop} {a1 a2 : Value} {u : Unit} (hi : xm_Imp g Γ pc (xi_virH g ci M' d' 2 n hs0)) (hs : xm_stk 2 (a2 :: a1 :: va_rf o :: st) = true) (ho : o = some a) (hc : xh_is ci h a = some u) (h1 : mc ≤ bc) (h2 : ms ≤ bs) (hr : xm_Run g M' d' [.ref a, a1, a2] h mc ms (fun v h' => ∃ r, v = some (va_rf r) ∧ Qf r h') XH) (k : ∀ r h', Qf r h' → xm_W g Γ n ls (va_rf r :: st) h' (bc - mc) (bs - ms)) (kx : ∀ E q h', XH E q h' → xm_hnd hs0 E (fun t => xm_W g Γ t ls [.ref q] h' (bc - mc) (bs - ms))) : xm_W g Γ pc ls (a2 :: a1 :: va_rf o :: st) h bc bs := by
  subst ho
  obtain ⟨w, fs, q⟩ := xh_is_s hc
  refine xm_use hi ⟨hs, w, fs, mc, ms, q, ⟨h1, h2⟩, ?_⟩
  exact xm_Run.mono hr (fun v h' q => by
    obtain ⟨r, rfl, q⟩ := q
    exact k r h' q) kx
theorem xw_tpr2 {M' : xm_M} {d' mc ms : Nat} {Qf : Option Nat → xm_H → Prop} {a1 a2 : Value} (hi : xm_Imp g Γ pc (xi_spe g M' d' 2 n)) (hs : xm_stk 2 (a2 :: a1 :: va_rf o :: st) = true) (ho : o = some a) (h1 : mc ≤ bc) (h2 : ms ≤ bs) (hr : xm_Run g M' d' [.ref a, a1, a2] h mc ms (fun v h' => ∃ r, v = some (va_rf r) ∧ Qf r h') xm_no) (k : ∀ r h', Qf r h' → xm_W g Γ n ls (va_rf r :: st) h' (bc - mc) (bs - ms)) : xm_W g Γ pc ls (a2 :: a1 :: va_rf o :: st) h bc bs := by
  subst ho
  refine xm_use hi ⟨hs, mc, ms, ⟨h1, h2⟩, ?_⟩
  exact xm_Run.mono hr (fun v h' q => by
    obtain ⟨r, rfl, q⟩ := q
    exact k r h' q) (fun E q h' x => x)
theorem xw_tsu2 {M' : xm_M} {d' mc ms : Nat} {Qf : xm_H → Prop} {a1 a2 : Value} (hi : xm_Imp g Γ pc (xi_inv g M' d' 2 n)) (hs : xm_stk 2 (a2 :: a1 :: st) = true) (h1 : mc ≤ bc) (h2 : ms ≤ bs) (hr : xm_Run g M' d' [a1, a2] h mc ms (fun v h' => v = none ∧ Qf h') xm_no) (k : ∀ h', Qf h' → xm_W g Γ n ls st h' (bc - mc) (bs - ms)) : xm_W g Γ pc ls (a2 :: a1 :: st) h bc bs := by
  refine xm_use hi ⟨hs, mc, ms, ⟨h1, h2⟩, ?_⟩
  exact xm_Run.mono hr (fun v h' q => by
    obtain ⟨rfl, q⟩ := q
    exact k h' q) (fun E q h' x => x)
theorem xw_tvu2 {ci : Nat} {M' : xm_M} {d' mc ms : Nat} {Qf : xm_H → Prop} {a1 a2 : Value} {u : Unit} (hi : xm_Imp g Γ pc (xi_vir g ci M' d' 2 n)) (hs : xm_stk 2 (a2 :: a1 :: va_rf o :: st) = true) (ho : o = some a) (hc : xh_is ci h a = some u) (h1 : mc ≤ bc) (h2 : ms ≤ bs) (hr : xm_Run g M' d' [.ref a, a1, a2] h mc ms (fun v h' => v = none ∧ Qf h') xm_no) (k : ∀ h', Qf h' → xm_W g Γ n ls st h' (bc - mc) (bs - ms)) : xm_W g Γ pc ls (a2 :: a1 :: va_rf o :: st) h bc bs := by
  subst ho
  obtain ⟨w, fs, q⟩ := xh_is_s hc
  refine xm_use hi ⟨hs, w, fs, mc, ms, q, ⟨h1, h2⟩, ?_⟩
  exact xm_Run.mono hr (fun v h' q => by
    obtain ⟨rfl, q⟩ := q
    exact k h' q) (fun E q h' x => x)
theorem xw_tXsu2 {M' : xm_M} {d' mc ms : Nat} {X : xm_X} {Qf : xm_H → Prop} {a1 a2 : Value} (hi : xm_Imp g Γ pc (xi_invX g M' d' 2 n X)) (hs : xm_stk 2 (a2 :: a1 :: st) = true) (h1 : mc ≤ bc) (h2 : ms ≤ bs) (hr : xm_Run g M' d' [a1, a2] h mc ms (fun v h' => v = none ∧ Qf h') X) (k : ∀ h', Qf h' → xm_W g Γ n ls st h' (bc - mc) (bs - ms)) : xm_W g Γ pc ls (a2 :: a1 :: st) h bc bs := by
  refine xm_use hi ⟨hs, mc, ms, ⟨h1, h2⟩, ?_⟩
  exact xm_Run.mono hr (fun v h' q => by
    obtain ⟨rfl, q⟩ := q
    exact k h' q) (fun E q h' x => x)
theorem xw_tXvu2 {ci : Nat} {M' : xm_M} {d' mc ms : Nat} {X : xm_X} {Qf : xm_H → Prop} {a1 a2 : Value} {u : Unit} (hi : xm_Imp g Γ pc (xi_virX g ci M' d' 2 n X)) (hs : xm_stk 2 (a2 :: a1 :: va_rf o :: st) = true) (ho : o = some a) (hc : xh_is ci h a = some u) (h1 : mc ≤ bc) (h2 : ms ≤ bs) (hr : xm_Run g M' d' [.ref a, a1, a2] h mc ms (fun v h' => v = none ∧ Qf h') X) (k : ∀ h', Qf h' → xm_W g Γ n ls st h' (bc - mc) (bs - ms)) : xm_W g Γ pc ls (a2 :: a1 :: va_rf o :: st) h bc bs := by
  subst ho
  obtain ⟨w, fs, q⟩ := xh_is_s hc
  refine xm_use hi ⟨hs, w, fs, mc, ms, q, ⟨h1, h2⟩, ?_⟩
  exact xm_Run.mono hr (fun v h' q => by
    obtain ⟨rfl, q⟩ := q
    exact k h' q) (fun E q h' x => x)
theorem xw_tHvu2 {ci : Nat} {M' : xm_M} {d' mc ms : Nat} {XH : xm_X} {hs0 : List (String × Nat)} {Qf : xm_H → Prop} {a1 a2 : Value} {u : Unit} (hi : xm_Imp g Γ pc (xi_virH g ci M' d' 2 n hs0)) (hs : xm_stk 2 (a2 :: a1 :: va_rf o :: st) = true) (ho : o = some a) (hc : xh_is ci h a = some u) (h1 : mc ≤ bc) (h2 : ms ≤ bs) (hr : xm_Run g M' d' [.ref a, a1, a2] h mc ms (fun v h' => v = none ∧ Qf h') XH) (k : ∀ h', Qf h' → xm_W g Γ n ls st h' (bc - mc) (bs - ms)) (kx : ∀ E q h', XH E q h' → xm_hnd hs0 E (fun t => xm_W g Γ t ls [.ref q] h' (bc - mc) (bs - ms))) : xm_W g Γ pc ls (a2 :: a1 :: va_rf o :: st) h bc bs := by
  subst ho
  obtain ⟨w, fs, q⟩ := xh_is_s hc
  refine xm_use hi ⟨hs, w, fs, mc, ms, q, ⟨h1, h2⟩, ?_⟩
  exact xm_Run.mono hr (fun v h' q => by
    obtain ⟨rfl, q⟩ := q
    exact k h' q) kx
theorem xw_tpu2 {M' : xm_M} {d' mc ms : Nat} {Qf : xm_H → Prop} {a1 a2 : Value} (hi : xm_Imp g Γ pc (xi_spe g M' d' 2 n)) (hs : xm_stk 2 (a2 :: a1 :: va_rf o :: st) = true) (ho : o = some a) (h1 : mc ≤ bc) (h2 : ms ≤ bs) (hr : xm_Run g M' d' [.ref a, a1, a2] h mc ms (fun v h' => v = none ∧ Qf h') xm_no) (k : ∀ h', Qf h' → xm_W g Γ n ls st h' (bc - mc) (bs - ms)) : xm_W g Γ pc ls (a2 :: a1 :: va_rf o :: st) h bc bs := by
  subst ho
  refine xm_use hi ⟨hs, mc, ms, ⟨h1, h2⟩, ?_⟩
  exact xm_Run.mono hr (fun v h' q => by
    obtain ⟨rfl, q⟩ := q
    exact k h' q) (fun E q h' x => x)
theorem xw_hv3 {ci : Nat} {M' : xm_M} {d' : Nat} {h' : xm_H} {a1 a2 a3 : Value} {r : Value} {u : Unit} (hi : xm_Imp g Γ pc (xi_vir g ci M' d' 3 n)) (hs : xm_stk 3 (a3 :: a2 :: a1 :: va_rf o :: st) = true) (ho : o = some a) (hc : xh_is ci h a = some u) (hr : ∀ (Q : xm_P) (X : xm_X), Q (some r) h' → xm_Run g M' d' [.ref a, a1, a2, a3] h 0 0 Q X) (k : xm_W g Γ n ls (r :: st) h' bc bs) : xm_W g Γ pc ls (a3 :: a2 :: a1 :: va_rf o :: st) h bc bs := by
  subst ho
  obtain ⟨w, fs, q⟩ := xh_is_s hc
  exact xm_use hi ⟨hs, w, fs, 0, 0, q, ⟨Nat.zero_le _, Nat.zero_le _⟩, hr _ _ k⟩
theorem xw_pv3 {M' : xm_M} {d' : Nat} {h' : xm_H} {a1 a2 a3 : Value} {r : Value} (hi : xm_Imp g Γ pc (xi_spe g M' d' 3 n)) (hs : xm_stk 3 (a3 :: a2 :: a1 :: va_rf o :: st) = true) (ho : o = some a) (hr : ∀ (Q : xm_P) (X : xm_X), Q (some r) h' → xm_Run g M' d' [.ref a, a1, a2, a3] h 0 0 Q X) (k : xm_W g Γ n ls (r :: st) h' bc bs) : xm_W g Γ pc ls (a3 :: a2 :: a1 :: va_rf o :: st) h bc bs := by
  subst ho
  exact xm_use hi ⟨hs, 0, 0, ⟨Nat.zero_le _, Nat.zero_le _⟩, hr _ _ k⟩
theorem xw_hu3 {ci : Nat} {M' : xm_M} {d' : Nat} {h' : xm_H} {a1 a2 a3 : Value} {u : Unit} (hi : xm_Imp g Γ pc (xi_vir g ci M' d' 3 n)) (hs : xm_stk 3 (a3 :: a2 :: a1 :: va_rf o :: st) = true) (ho : o = some a) (hc : xh_is ci h a = some u) (hr : ∀ (Q : xm_P) (X : xm_X), Q (none) h' → xm_Run g M' d' [.ref a, a1, a2, a3] h 0 0 Q X) (k : xm_W g Γ n ls (st) h' bc bs) : xm_W g Γ pc ls (a3 :: a2 :: a1 :: va_rf o :: st) h bc bs := by
  subst ho
  obtain ⟨w, fs, q⟩ := xh_is_s hc
  exact xm_use hi ⟨hs, w, fs, 0, 0, q, ⟨Nat.zero_le _, Nat.zero_le _⟩, hr _ _ k⟩
theorem xw_pu3 {M' : xm_M} {d' : Nat} {h' : xm_H} {a1 a2 a3 : Value} (hi : xm_Imp g Γ pc (xi_spe g M' d' 3 n)) (hs : xm_stk 3 (a3 :: a2 :: a1 :: va_rf o :: st) = true) (ho : o = some a) (hr : ∀ (Q : xm_P) (X : xm_X), Q (none) h' → xm_Run g M' d' [.ref a, a1, a2, a3] h 0 0 Q X) (k : xm_W g Γ n ls (st) h' bc bs) : xm_W g Γ pc ls (a3 :: a2 :: a1 :: va_rf o :: st) h bc bs := by
  subst ho
  exact xm_use hi ⟨hs, 0, 0, ⟨Nat.zero_le _, Nat.zero_le _⟩, hr _ _ k⟩
theorem xw_tsi3 {M' : xm_M} {d' mc ms : Nat} {Qf : Int32 → xm_H → Prop} {a1 a2 a3 : Value} (hi : xm_Imp g Γ pc (xi_inv g M' d' 3 n)) (hs : xm_stk 3 (a3 :: a2 :: a1 :: st) = true) (h1 : mc ≤ bc) (h2 : ms ≤ bs) (hr : xm_Run g M' d' [a1, a2, a3] h mc ms (fun v h' => ∃ r, v = some (.int r) ∧ Qf r h') xm_no) (k : ∀ r h', Qf r h' → xm_W g Γ n ls (.int r :: st) h' (bc - mc) (bs - ms)) : xm_W g Γ pc ls (a3 :: a2 :: a1 :: st) h bc bs := by
  refine xm_use hi ⟨hs, mc, ms, ⟨h1, h2⟩, ?_⟩
  exact xm_Run.mono hr (fun v h' q => by
    obtain ⟨r, rfl, q⟩ := q
    exact k r h' q) (fun E q h' x => x)
theorem xw_tvi3 {ci : Nat} {M' : xm_M} {d' mc ms : Nat} {Qf : Int32 → xm_H → Prop} {a1 a2 a3 : Value} {u : Unit} (hi : xm_Imp g Γ pc (xi_vir g ci M' d' 3 n)) (hs : xm_stk 3 (a3 :: a2 :: a1 :: va_rf o :: st) = true) (ho : o = some a) (hc : xh_is ci h a = some u) (h1 : mc ≤ bc) (h2 : ms ≤ bs) (hr : xm_Run g M' d' [.ref a, a1, a2, a3] h mc ms (fun v h' => ∃ r, v = some (.int r) ∧ Qf r h') xm_no) (k : ∀ r h', Qf r h' → xm_W g Γ n ls (.int r :: st) h' (bc - mc) (bs - ms)) : xm_W g Γ pc ls (a3 :: a2 :: a1 :: va_rf o :: st) h bc bs := by
  subst ho
  obtain ⟨w, fs, q⟩ := xh_is_s hc
  refine xm_use hi ⟨hs, w, fs, mc, ms, q, ⟨h1, h2⟩, ?_⟩
  exact xm_Run.mono hr (fun v h' q => by
    obtain ⟨r, rfl, q⟩ := q
    exact k r h' q) (fun E q h' x => x)
theorem xw_tXsi3 {M' : xm_M} {d' mc ms : Nat} {X : xm_X} {Qf : Int32 → xm_H → Prop} {a1 a2 a3 : Value} (hi : xm_Imp g Γ pc (xi_invX g M' d' 3 n X)) (hs : xm_stk 3 (a3 :: a2 :: a1 :: st) = true) (h1 : mc ≤ bc) (h2 : ms ≤ bs) (hr : xm_Run g M' d' [a1, a2, a3] h mc ms (fun v h' => ∃ r, v = some (.int r) ∧ Qf r h') X) (k : ∀ r h', Qf r h' → xm_W g Γ n ls (.int r :: st) h' (bc - mc) (bs - ms)) : xm_W g Γ pc ls (a3 :: a2 :: a1 :: st) h bc bs := by
  refine xm_use hi ⟨hs, mc, ms, ⟨h1, h2⟩, ?_⟩
  exact xm_Run.mono hr (fun v h' q => by
    obtain ⟨r, rfl, q⟩ := q
    exact k r h' q) (fun E q h' x => x)
theorem xw_tXvi3 {ci : Nat} {M' : xm_M} {d' mc ms : Nat} {X : xm_X} {Qf : Int32 → xm_H → Prop} {a1 a2 a3 : Value} {u : Unit} (hi : xm_Imp g Γ pc (xi_virX g ci M' d' 3 n X)) (hs : xm_stk 3 (a3 :: a2 :: a1 :: va_rf o :: st) = true) (ho : o = some a) (hc : xh_is ci h a = some u) (h1 : mc ≤ bc) (h2 : ms ≤ bs) (hr : xm_Run g M' d' [.ref a, a1, a2, a3] h mc ms (fun v h' => ∃ r, v = some (.int r) ∧ Qf r h') X) (k : ∀ r h', Qf r h' → xm_W g Γ n ls (.int r :: st) h' (bc - mc) (bs - ms)) : xm_W g Γ pc ls (a3 :: a2 :: a1 :: va_rf o :: st) h bc bs := by
  subst ho
  obtain ⟨w, fs, q⟩ := xh_is_s hc
  refine xm_use hi ⟨hs, w, fs, mc, ms, q, ⟨h1, h2⟩, ?_⟩
  exact xm_Run.mono hr (fun v h' q => by
    obtain ⟨r, rfl, q⟩ := q
    exact k r h' q) (fun E q h' x => x)
theorem xw_tHvi3 {ci : Nat} {M' : xm_M} {d' mc ms : Nat} {XH : xm_X} {hs0 : List (String × Nat)} {Qf : Int32 → xm_H → Prop} {a1 a2 a3 : Value} {u : Unit} (hi : xm_Imp g Γ pc (xi_virH g ci M' d' 3 n hs0)) (hs : xm_stk 3 (a3 :: a2 :: a1 :: va_rf o :: st) = true) (ho : o = some a) (hc : xh_is ci h a = some u) (h1 : mc ≤ bc) (h2 : ms ≤ bs) (hr : xm_Run g M' d' [.ref a, a1, a2, a3] h mc ms (fun v h' => ∃ r, v = some (.int r) ∧ Qf r h') XH) (k : ∀ r h', Qf r h' → xm_W g Γ n ls (.int r :: st) h' (bc - mc) (bs - ms)) (kx : ∀ E q h', XH E q h' → xm_hnd hs0 E (fun t => xm_W g Γ t ls [.ref q] h' (bc - mc) (bs - ms))) : xm_W g Γ pc ls (a3 :: a2 :: a1 :: va_rf o :: st) h bc bs := by
  subst ho
  obtain ⟨w, fs, q⟩ := xh_is_s hc
  refine xm_use hi ⟨hs, w, fs, mc, ms, q, ⟨h1, h2⟩, ?_⟩
  exact xm_Run.mono hr (fun v h' q => by
    obtain ⟨r, rfl, q⟩ := q
    exact k r h' q) kx
theorem xw_tpi3 {M' : xm_M} {d' mc ms : Nat} {Qf : Int32 → xm_H → Prop} {a1 a2 a3 : Value} (hi : xm_Imp g Γ pc (xi_spe g M' d' 3 n)) (hs : xm_stk 3 (a3 :: a2 :: a1 :: va_rf o :: st) = true) (ho : o = some a) (h1 : mc ≤ bc) (h2 : ms ≤ bs) (hr : xm_Run g M' d' [.ref a, a1, a2, a3] h mc ms (fun v h' => ∃ r, v = some (.int r) ∧ Qf r h') xm_no) (k : ∀ r h', Qf r h' → xm_W g Γ n ls (.int r :: st) h' (bc - mc) (bs - ms)) : xm_W g Γ pc ls (a3 :: a2 :: a1 :: va_rf o :: st) h bc bs := by
  subst ho
  refine xm_use hi ⟨hs, mc, ms, ⟨h1, h2⟩, ?_⟩
  exact xm_Run.mono hr (fun v h' q => by
    obtain ⟨r, rfl, q⟩ := q
    exact k r h' q) (fun E q h' x => x)
theorem xw_tsl3 {M' : xm_M} {d' mc ms : Nat} {Qf : Int64 → xm_H → Prop} {a1 a2 a3 : Value} (hi : xm_Imp g Γ pc (xi_inv g M' d' 3 n)) (hs : xm_stk 3 (a3 :: a2 :: a1 :: st) = true) (h1 : mc ≤ bc) (h2 : ms ≤ bs) (hr : xm_Run g M' d' [a1, a2, a3] h mc ms (fun v h' => ∃ r, v = some (.long r) ∧ Qf r h') xm_no) (k : ∀ r h', Qf r h' → xm_W g Γ n ls (.long r :: st) h' (bc - mc) (bs - ms)) : xm_W g Γ pc ls (a3 :: a2 :: a1 :: st) h bc bs := by
  refine xm_use hi ⟨hs, mc, ms, ⟨h1, h2⟩, ?_⟩
  exact xm_Run.mono hr (fun v h' q => by
    obtain ⟨r, rfl, q⟩ := q
    exact k r h' q) (fun E q h' x => x)
theorem xw_tvl3 {ci : Nat} {M' : xm_M} {d' mc ms : Nat} {Qf : Int64 → xm_H → Prop} {a1 a2 a3 : Value} {u : Unit} (hi : xm_Imp g Γ pc (xi_vir g ci M' d' 3 n)) (hs : xm_stk 3 (a3 :: a2 :: a1 :: va_rf o :: st) = true) (ho : o = some a) (hc : xh_is ci h a = some u) (h1 : mc ≤ bc) (h2 : ms ≤ bs) (hr : xm_Run g M' d' [.ref a, a1, a2, a3] h mc ms (fun v h' => ∃ r, v = some (.long r) ∧ Qf r h') xm_no) (k : ∀ r h', Qf r h' → xm_W g Γ n ls (.long r :: st) h' (bc - mc) (bs - ms)) : xm_W g Γ pc ls (a3 :: a2 :: a1 :: va_rf o :: st) h bc bs := by
  subst ho
  obtain ⟨w, fs, q⟩ := xh_is_s hc
  refine xm_use hi ⟨hs, w, fs, mc, ms, q, ⟨h1, h2⟩, ?_⟩
  exact xm_Run.mono hr (fun v h' q => by
    obtain ⟨r, rfl, q⟩ := q
    exact k r h' q) (fun E q h' x => x)
theorem xw_tXsl3 {M' : xm_M} {d' mc ms : Nat} {X : xm_X} {Qf : Int64 → xm_H → Prop} {a1 a2 a3 : Value} (hi : xm_Imp g Γ pc (xi_invX g M' d' 3 n X)) (hs : xm_stk 3 (a3 :: a2 :: a1 :: st) = true) (h1 : mc ≤ bc) (h2 : ms ≤ bs) (hr : xm_Run g M' d' [a1, a2, a3] h mc ms (fun v h' => ∃ r, v = some (.long r) ∧ Qf r h') X) (k : ∀ r h', Qf r h' → xm_W g Γ n ls (.long r :: st) h' (bc - mc) (bs - ms)) : xm_W g Γ pc ls (a3 :: a2 :: a1 :: st) h bc bs := by
  refine xm_use hi ⟨hs, mc, ms, ⟨h1, h2⟩, ?_⟩
  exact xm_Run.mono hr (fun v h' q => by
    obtain ⟨r, rfl, q⟩ := q
    exact k r h' q) (fun E q h' x => x)
theorem xw_tXvl3 {ci : Nat} {M' : xm_M} {d' mc ms : Nat} {X : xm_X} {Qf : Int64 → xm_H → Prop} {a1 a2 a3 : Value} {u : Unit} (hi : xm_Imp g Γ pc (xi_virX g ci M' d' 3 n X)) (hs : xm_stk 3 (a3 :: a2 :: a1 :: va_rf o :: st) = true) (ho : o = some a) (hc : xh_is ci h a = some u) (h1 : mc ≤ bc) (h2 : ms ≤ bs) (hr : xm_Run g M' d' [.ref a, a1, a2, a3] h mc ms (fun v h' => ∃ r, v = some (.long r) ∧ Qf r h') X) (k : ∀ r h', Qf r h' → xm_W g Γ n ls (.long r :: st) h' (bc - mc) (bs - ms)) : xm_W g Γ pc ls (a3 :: a2 :: a1 :: va_rf o :: st) h bc bs := by
  subst ho
  obtain ⟨w, fs, q⟩ := xh_is_s hc
  refine xm_use hi ⟨hs, w, fs, mc, ms, q, ⟨h1, h2⟩, ?_⟩
  exact xm_Run.mono hr (fun v h' q => by
    obtain ⟨r, rfl, q⟩ := q
    exact k r h' q) (fun E q h' x => x)
theorem xw_tHvl3 {ci : Nat} {M' : xm_M} {d' mc ms : Nat} {XH : xm_X} {hs0 : List (String × Nat)} {Qf : Int64 → xm_H → Prop} {a1 a2 a3 : Value} {u : Unit} (hi : xm_Imp g Γ pc (xi_virH g ci M' d' 3 n hs0)) (hs : xm_stk 3 (a3 :: a2 :: a1 :: va_rf o :: st) = true) (ho : o = some a) (hc : xh_is ci h a = some u) (h1 : mc ≤ bc) (h2 : ms ≤ bs) (hr : xm_Run g M' d' [.ref a, a1, a2, a3] h mc ms (fun v h' => ∃ r, v = some (.long r) ∧ Qf r h') XH) (k : ∀ r h', Qf r h' → xm_W g Γ n ls (.long r :: st) h' (bc - mc) (bs - ms)) (kx : ∀ E q h', XH E q h' → xm_hnd hs0 E (fun t => xm_W g Γ t ls [.ref q] h' (bc - mc) (bs - ms))) : xm_W g Γ pc ls (a3 :: a2 :: a1 :: va_rf o :: st) h bc bs := by
  subst ho
  obtain ⟨w, fs, q⟩ := xh_is_s hc
  refine xm_use hi ⟨hs, w, fs, mc, ms, q, ⟨h1, h2⟩, ?_⟩
  exact xm_Run.mono hr (fun v h' q => by
    obtain ⟨r, rfl, q⟩ := q
    exact k r h' q) kx
theorem xw_tpl3 {M' : xm_M} {d' mc ms : Nat} {Qf : Int64 → xm_H → Prop} {a1 a2 a3 : Value} (hi : xm_Imp g Γ pc (xi_spe g M' d' 3 n)) (hs : xm_stk 3 (a3 :: a2 :: a1 :: va_rf o :: st) = true) (ho : o = some a) (h1 : mc ≤ bc) (h2 : ms ≤ bs) (hr : xm_Run g M' d' [.ref a, a1, a2, a3] h mc ms (fun v h' => ∃ r, v = some (.long r) ∧ Qf r h') xm_no) (k : ∀ r h', Qf r h' → xm_W g Γ n ls (.long r :: st) h' (bc - mc) (bs - ms)) : xm_W g Γ pc ls (a3 :: a2 :: a1 :: va_rf o :: st) h bc bs := by
  subst ho
  refine xm_use hi ⟨hs, mc, ms, ⟨h1, h2⟩, ?_⟩
  exact xm_Run.mono hr (fun v h' q => by
    obtain ⟨r, rfl, q⟩ := q
    exact k r h' q) (fun E q h' x => x)
theorem xw_tsf3 {M' : xm_M} {d' mc ms : Nat} {Qf : UInt32 → xm_H → Prop} {a1 a2 a3 : Value} (hi : xm_Imp g Γ pc (xi_inv g M' d' 3 n)) (hs : xm_stk 3 (a3 :: a2 :: a1 :: st) = true) (h1 : mc ≤ bc) (h2 : ms ≤ bs) (hr : xm_Run g M' d' [a1, a2, a3] h mc ms (fun v h' => ∃ r, v = some (.float r) ∧ Qf r h') xm_no) (k : ∀ r h', Qf r h' → xm_W g Γ n ls (.float r :: st) h' (bc - mc) (bs - ms)) : xm_W g Γ pc ls (a3 :: a2 :: a1 :: st) h bc bs := by
  refine xm_use hi ⟨hs, mc, ms, ⟨h1, h2⟩, ?_⟩
  exact xm_Run.mono hr (fun v h' q => by
    obtain ⟨r, rfl, q⟩ := q
    exact k r h' q) (fun E q h' x => x)
theorem xw_tvf3 {ci : Nat} {M' : xm_M} {d' mc ms : Nat} {Qf : UInt32 → xm_H → Prop} {a1 a2 a3 : Value} {u : Unit} (hi : xm_Imp g Γ pc (xi_vir g ci M' d' 3 n)) (hs : xm_stk 3 (a3 :: a2 :: a1 :: va_rf o :: st) = true) (ho : o = some a) (hc : xh_is ci h a = some u) (h1 : mc ≤ bc) (h2 : ms ≤ bs) (hr : xm_Run g M' d' [.ref a, a1, a2, a3] h mc ms (fun v h' => ∃ r, v = some (.float r) ∧ Qf r h') xm_no) (k : ∀ r h', Qf r h' → xm_W g Γ n ls (.float r :: st) h' (bc - mc) (bs - ms)) : xm_W g Γ pc ls (a3 :: a2 :: a1 :: va_rf o :: st) h bc bs := by
  subst ho
  obtain ⟨w, fs, q⟩ := xh_is_s hc
  refine xm_use hi ⟨hs, w, fs, mc, ms, q, ⟨h1, h2⟩, ?_⟩
  exact xm_Run.mono hr (fun v h' q => by
    obtain ⟨r, rfl, q⟩ := q
    exact k r h' q) (fun E q h' x => x)
theorem xw_tXsf3 {M' : xm_M} {d' mc ms : Nat} {X : xm_X} {Qf : UInt32 → xm_H → Prop} {a1 a2 a3 : Value} (hi : xm_Imp g Γ pc (xi_invX g M' d' 3 n X)) (hs : xm_stk 3 (a3 :: a2 :: a1 :: st) = true) (h1 : mc ≤ bc) (h2 : ms ≤ bs) (hr : xm_Run g M' d' [a1, a2, a3] h mc ms (fun v h' => ∃ r, v = some (.float r) ∧ Qf r h') X) (k : ∀ r h', Qf r h' → xm_W g Γ n ls (.float r :: st) h' (bc - mc) (bs - ms)) : xm_W g Γ pc ls (a3 :: a2 :: a1 :: st) h bc bs := by
  refine xm_use hi ⟨hs, mc, ms, ⟨h1, h2⟩, ?_⟩
  exact xm_Run.mono hr (fun v h' q => by
    obtain ⟨r, rfl, q⟩ := q
    exact k r h' q) (fun E q h' x => x)
theorem xw_tXvf3 {ci : Nat} {M' : xm_M} {d' mc ms : Nat} {X : xm_X} {Qf : UInt32 → xm_H → Prop} {a1 a2 a3 : Value} {u : Unit} (hi : xm_Imp g Γ pc (xi_virX g ci M' d' 3 n X)) (hs : xm_stk 3 (a3 :: a2 :: a1 :: va_rf o :: st) = true) (ho : o = some a) (hc : xh_is ci h a = some u) (h1 : mc ≤ bc) (h2 : ms ≤ bs) (hr : xm_Run g M' d' [.ref a, a1, a2, a3] h mc ms (fun v h' => ∃ r, v = some (.float r) ∧ Qf r h') X) (k : ∀ r h', Qf r h' → xm_W g Γ n ls (.float r :: st) h' (bc - mc) (bs - ms)) : xm_W g Γ pc ls (a3 :: a2 :: a1 :: va_rf o :: st) h bc bs := by
  subst ho
  obtain ⟨w, fs, q⟩ := xh_is_s hc
  refine xm_use hi ⟨hs, w, fs, mc, ms, q, ⟨h1, h2⟩, ?_⟩
  exact xm_Run.mono hr (fun v h' q => by
    obtain ⟨r, rfl, q⟩ := q
    exact k r h' q) (fun E q h' x => x)
theorem xw_tHvf3 {ci : Nat} {M' : xm_M} {d' mc ms : Nat} {XH : xm_X} {hs0 : List (String × Nat)} {Qf : UInt32 → xm_H → Prop} {a1 a2 a3 : Value} {u : Unit} (hi : xm_Imp g Γ pc (xi_virH g ci M' d' 3 n hs0)) (hs : xm_stk 3 (a3 :: a2 :: a1 :: va_rf o :: st) = true) (ho : o = some a) (hc : xh_is ci h a = some u) (h1 : mc ≤ bc) (h2 : ms ≤ bs) (hr : xm_Run g M' d' [.ref a, a1, a2, a3] h mc ms (fun v h' => ∃ r, v = some (.float r) ∧ Qf r h') XH) (k : ∀ r h', Qf r h' → xm_W g Γ n ls (.float r :: st) h' (bc - mc) (bs - ms)) (kx : ∀ E q h', XH E q h' → xm_hnd hs0 E (fun t => xm_W g Γ t ls [.ref q] h' (bc - mc) (bs - ms))) : xm_W g Γ pc ls (a3 :: a2 :: a1 :: va_rf o :: st) h bc bs := by
  subst ho
  obtain ⟨w, fs, q⟩ := xh_is_s hc
  refine xm_use hi ⟨hs, w, fs, mc, ms, q, ⟨h1, h2⟩, ?_⟩
  exact xm_Run.mono hr (fun v h' q => by
    obtain ⟨r, rfl, q⟩ := q
    exact k r h' q) kx
theorem xw_tpf3 {M' : xm_M} {d' mc ms : Nat} {Qf : UInt32 → xm_H → Prop} {a1 a2 a3 : Value} (hi : xm_Imp g Γ pc (xi_spe g M' d' 3 n)) (hs : xm_stk 3 (a3 :: a2 :: a1 :: va_rf o :: st) = true) (ho : o = some a) (h1 : mc ≤ bc) (h2 : ms ≤ bs) (hr : xm_Run g M' d' [.ref a, a1, a2, a3] h mc ms (fun v h' => ∃ r, v = some (.float r) ∧ Qf r h') xm_no) (k : ∀ r h', Qf r h' → xm_W g Γ n ls (.float r :: st) h' (bc - mc) (bs - ms)) : xm_W g Γ pc ls (a3 :: a2 :: a1 :: va_rf o :: st) h bc bs := by
  subst ho
  refine xm_use hi ⟨hs, mc, ms, ⟨h1, h2⟩, ?_⟩
  exact xm_Run.mono hr (fun v h' q => by
    obtain ⟨r, rfl, q⟩ := q
    exact k r h' q) (fun E q h' x => x)
theorem xw_tsd3 {M' : xm_M} {d' mc ms : Nat} {Qf : UInt64 → xm_H → Prop} {a1 a2 a3 : Value} (hi : xm_Imp g Γ pc (xi_inv g M' d' 3 n)) (hs : xm_stk 3 (a3 :: a2 :: a1 :: st) = true) (h1 : mc ≤ bc) (h2 : ms ≤ bs) (hr : xm_Run g M' d' [a1, a2, a3] h mc ms (fun v h' => ∃ r, v = some (.double r) ∧ Qf r h') xm_no) (k : ∀ r h', Qf r h' → xm_W g Γ n ls (.double r :: st) h' (bc - mc) (bs - ms)) : xm_W g Γ pc ls (a3 :: a2 :: a1 :: st) h bc bs := by
  refine xm_use hi ⟨hs, mc, ms, ⟨h1, h2⟩, ?_⟩
  exact xm_Run.mono hr (fun v h' q => by
    obtain ⟨r, rfl, q⟩ := q
    exact k r h' q) (fun E q h' x => x)
theorem xw_tvd3 {ci : Nat} {M' : xm_M} {d' mc ms : Nat} {Qf : UInt64 → xm_H → Prop} {a1 a2 a3 : Value} {u : Unit} (hi : xm_Imp g Γ pc (xi_vir g ci M' d' 3 n)) (hs : xm_stk 3 (a3 :: a2 :: a1 :: va_rf o :: st) = true) (ho : o = some a) (hc : xh_is ci h a = some u) (h1 : mc ≤ bc) (h2 : ms ≤ bs) (hr : xm_Run g M' d' [.ref a, a1, a2, a3] h mc ms (fun v h' => ∃ r, v = some (.double r) ∧ Qf r h') xm_no) (k : ∀ r h', Qf r h' → xm_W g Γ n ls (.double r :: st) h' (bc - mc) (bs - ms)) : xm_W g Γ pc ls (a3 :: a2 :: a1 :: va_rf o :: st) h bc bs := by
  subst ho
  obtain ⟨w, fs, q⟩ := xh_is_s hc
  refine xm_use hi ⟨hs, w, fs, mc, ms, q, ⟨h1, h2⟩, ?_⟩
  exact xm_Run.mono hr (fun v h' q => by
    obtain ⟨r, rfl, q⟩ := q
    exact k r h' q) (fun E q h' x => x)
theorem xw_tXsd3 {M' : xm_M} {d' mc ms : Nat} {X : xm_X} {Qf : UInt64 → xm_H → Prop} {a1 a2 a3 : Value} (hi : xm_Imp g Γ pc (xi_invX g M' d' 3 n X)) (hs : xm_stk 3 (a3 :: a2 :: a1 :: st) = true) (h1 : mc ≤ bc) (h2 : ms ≤ bs) (hr : xm_Run g M' d' [a1, a2, a3] h mc ms (fun v h' => ∃ r, v = some (.double r) ∧ Qf r h') X) (k : ∀ r h', Qf r h' → xm_W g Γ n ls (.double r :: st) h' (bc - mc) (bs - ms)) : xm_W g Γ pc ls (a3 :: a2 :: a1 :: st) h bc bs := by
  refine xm_use hi ⟨hs, mc, ms, ⟨h1, h2⟩, ?_⟩
  exact xm_Run.mono hr (fun v h' q => by
    obtain ⟨r, rfl, q⟩ := q
    exact k r h' q) (fun E q h' x => x)
theorem xw_tXvd3 {ci : Nat} {M' : xm_M} {d' mc ms : Nat} {X : xm_X} {Qf : UInt64 → xm_H → Prop} {a1 a2 a3 : Value} {u : Unit} (hi : xm_Imp g Γ pc (xi_virX g ci M' d' 3 n X)) (hs : xm_stk 3 (a3 :: a2 :: a1 :: va_rf o :: st) = true) (ho : o = some a) (hc : xh_is ci h a = some u) (h1 : mc ≤ bc) (h2 : ms ≤ bs) (hr : xm_Run g M' d' [.ref a, a1, a2, a3] h mc ms (fun v h' => ∃ r, v = some (.double r) ∧ Qf r h') X) (k : ∀ r h', Qf r h' → xm_W g Γ n ls (.double r :: st) h' (bc - mc) (bs - ms)) : xm_W g Γ pc ls (a3 :: a2 :: a1 :: va_rf o :: st) h bc bs := by
  subst ho
  obtain ⟨w, fs, q⟩ := xh_is_s hc
  refine xm_use hi ⟨hs, w, fs, mc, ms, q, ⟨h1, h2⟩, ?_⟩
  exact xm_Run.mono hr (fun v h' q => by
    obtain ⟨r, rfl, q⟩ := q
    exact k r h' q) (fun E q h' x => x)
theorem xw_tHvd3 {ci : Nat} {M' : xm_M} {d' mc ms : Nat} {XH : xm_X} {hs0 : List (String × Nat)} {Qf : UInt64 → xm_H → Prop} {a1 a2 a3 : Value} {u : Unit} (hi : xm_Imp g Γ pc (xi_virH g ci M' d' 3 n hs0)) (hs : xm_stk 3 (a3 :: a2 :: a1 :: va_rf o :: st) = true) (ho : o = some a) (hc : xh_is ci h a = some u) (h1 : mc ≤ bc) (h2 : ms ≤ bs) (hr : xm_Run g M' d' [.ref a, a1, a2, a3] h mc ms (fun v h' => ∃ r, v = some (.double r) ∧ Qf r h') XH) (k : ∀ r h', Qf r h' → xm_W g Γ n ls (.double r :: st) h' (bc - mc) (bs - ms)) (kx : ∀ E q h', XH E q h' → xm_hnd hs0 E (fun t => xm_W g Γ t ls [.ref q] h' (bc - mc) (bs - ms))) : xm_W g Γ pc ls (a3 :: a2 :: a1 :: va_rf o :: st) h bc bs := by
  subst ho
  obtain ⟨w, fs, q⟩ := xh_is_s hc
  refine xm_use hi ⟨hs, w, fs, mc, ms, q, ⟨h1, h2⟩, ?_⟩
  exact xm_Run.mono hr (fun v h' q => by
    obtain ⟨r, rfl, q⟩ := q
    exact k r h' q) kx
theorem xw_tpd3 {M' : xm_M} {d' mc ms : Nat} {Qf : UInt64 → xm_H → Prop} {a1 a2 a3 : Value} (hi : xm_Imp g Γ pc (xi_spe g M' d' 3 n)) (hs : xm_stk 3 (a3 :: a2 :: a1 :: va_rf o :: st) = true) (ho : o = some a) (h1 : mc ≤ bc) (h2 : ms ≤ bs) (hr : xm_Run g M' d' [.ref a, a1, a2, a3] h mc ms (fun v h' => ∃ r, v = some (.double r) ∧ Qf r h') xm_no) (k : ∀ r h', Qf r h' → xm_W g Γ n ls (.double r :: st) h' (bc - mc) (bs - ms)) : xm_W g Γ pc ls (a3 :: a2 :: a1 :: va_rf o :: st) h bc bs := by
  subst ho
  refine xm_use hi ⟨hs, mc, ms, ⟨h1, h2⟩, ?_⟩
  exact xm_Run.mono hr (fun v h' q => by
    obtain ⟨r, rfl, q⟩ := q
    exact k r h' q) (fun E q h' x => x)
theorem xw_tsr3 {M' : xm_M} {d' mc ms : Nat} {Qf : Option Nat → xm_H → Prop} {a1 a2 a3 : Value} (hi : xm_Imp g Γ pc (xi_inv g M' d' 3 n)) (hs : xm_stk 3 (a3 :: a2 :: a1 :: st) = true) (h1 : mc ≤ bc) (h2 : ms ≤ bs) (hr : xm_Run g M' d' [a1, a2, a3] h mc ms (fun v h' => ∃ r, v = some (va_rf r) ∧ Qf r h') xm_no) (k : ∀ r h', Qf r h' → xm_W g Γ n ls (va_rf r :: st) h' (bc - mc) (bs - ms)) : xm_W g Γ pc ls (a3 :: a2 :: a1 :: st) h bc bs := by
  refine xm_use hi ⟨hs, mc, ms, ⟨h1, h2⟩, ?_⟩
  exact xm_Run.mono hr (fun v h' q => by
    obtain ⟨r, rfl, q⟩ := q
    exact k r h' q) (fun E q h' x => x)
theorem xw_tvr3 {ci : Nat} {M' : xm_M} {d' mc ms : Nat} {Qf : Option Nat → xm_H → Prop} {a1 a2 a3 : Value} {u : Unit} (hi : xm_Imp g Γ pc (xi_vir g ci M' d' 3 n)) (hs : xm_stk 3 (a3 :: a2 :: a1 :: va_rf o :: st) = true) (ho : o = some a) (hc : xh_is ci h a = some u) (h1 : mc ≤ bc) (h2 : ms ≤ bs) (hr : xm_Run g M' d' [.ref a, a1, a2, a3] h mc ms (fun v h' => ∃ r, v = some (va_rf r) ∧ Qf r h') xm_no) (k : ∀ r h', Qf r h' → xm_W g Γ n ls (va_rf r :: st) h' (bc - mc) (bs - ms)) : xm_W g Γ pc ls (a3 :: a2 :: a1 :: va_rf o :: st) h bc bs := by
  subst ho
  obtain ⟨w, fs, q⟩ := xh_is_s hc
  refine xm_use hi ⟨hs, w, fs, mc, ms, q, ⟨h1, h2⟩, ?_⟩
  exact xm_Run.mono hr (fun v h' q => by
    obtain ⟨r, rfl, q⟩ := q
    exact k r h' q) (fun E q h' x => x)
theorem xw_tXsr3 {M' : xm_M} {d' mc ms : Nat} {X : xm_X} {Qf : Option Nat → xm_H → Prop} {a1 a2 a3 : Value} (hi : xm_Imp g Γ pc (xi_invX g M' d' 3 n X)) (hs : xm_stk 3 (a3 :: a2 :: a1 :: st) = true) (h1 : mc ≤ bc) (h2 : ms ≤ bs) (hr : xm_Run g M' d' [a1, a2, a3] h mc ms (fun v h' => ∃ r, v = some (va_rf r) ∧ Qf r h') X) (k : ∀ r h', Qf r h' → xm_W g Γ n ls (va_rf r :: st) h' (bc - mc) (bs - ms)) : xm_W g Γ pc ls (a3 :: a2 :: a1 :: st) h bc bs := by
  refine xm_use hi ⟨hs, mc, ms, ⟨h1, h2⟩, ?_⟩
  exact xm_Run.mono hr (fun v h' q => by
    obtain ⟨r, rfl, q⟩ := q
    exact k r h' q) (fun E q h' x => x)
theorem xw_tXvr3 {ci : Nat} {M' : xm_M} {d' mc ms : Nat} {X : xm_X} {Qf : Option Nat → xm_H → Prop} {a1 a2 a3 : Value} {u : Unit} (hi : xm_Imp g Γ pc (xi_virX g ci M' d' 3 n X)) (hs : xm_stk 3 (a3 :: a2 :: a1 :: va_rf o :: st) = true) (ho : o = some a) (hc : xh_is ci h a = some u) (h1 : mc ≤ bc) (h2 : ms ≤ bs) (hr : xm_Run g M' d' [.ref a, a1, a2, a3] h mc ms (fun v h' => ∃ r, v = some (va_rf r) ∧ Qf r h') X) (k : ∀ r h', Qf r h' → xm_W g Γ n ls (va_rf r :: st) h' (bc - mc) (bs - ms)) : xm_W g Γ pc ls (a3 :: a2 :: a1 :: va_rf o :: st) h bc bs := by
  subst ho
  obtain ⟨w, fs, q⟩ := xh_is_s hc
  refine xm_use hi ⟨hs, w, fs, mc, ms, q, ⟨h1, h2⟩, ?_⟩
  exact xm_Run.mono hr (fun v h' q => by
    obtain ⟨r, rfl, q⟩ := q
    exact k r h' q) (fun E q h' x => x)
theorem xw_tHvr3 {ci : Nat} {M' : xm_M} {d' mc ms : Nat} {XH : xm_X} {hs0 : List (String × Nat)} {Qf : Option Nat → xm_H → Prop} {a1 a2 a3 : Value} {u : Unit} (hi : xm_Imp g Γ pc (xi_virH g ci M' d' 3 n hs0)) (hs : xm_stk 3 (a3 :: a2 :: a1 :: va_rf o :: st) = true) (ho : o = some a) (hc : xh_is ci h a = some u) (h1 : mc ≤ bc) (h2 : ms ≤ bs) (hr : xm_Run g M' d' [.ref a, a1, a2, a3] h mc ms (fun v h' => ∃ r, v = some (va_rf r) ∧ Qf r h') XH) (k : ∀ r h', Qf r h' → xm_W g Γ n ls (va_rf r :: st) h' (bc - mc) (bs - ms)) (kx : ∀ E q h', XH E q h' → xm_hnd hs0 E (fun t => xm_W g Γ t ls [.ref q] h' (bc - mc) (bs - ms))) : xm_W g Γ pc ls (a3 :: a2 :: a1 :: va_rf o :: st) h bc bs := by
  subst ho
  obtain ⟨w, fs, q⟩ := xh_is_s hc
  refine xm_use hi ⟨hs, w, fs, mc, ms, q, ⟨h1, h2⟩, ?_⟩
  exact xm_Run.mono hr (fun v h' q => by
    obtain ⟨r, rfl, q⟩ := q
    exact k r h' q) kx
theorem xw_tpr3 {M' : xm_M} {d' mc ms : Nat} {Qf : Option Nat → xm_H → Prop} {a1 a2 a3 : Value} (hi : xm_Imp g Γ pc (xi_spe g M' d' 3 n)) (hs : xm_stk 3 (a3 :: a2 :: a1 :: va_rf o :: st) = true) (ho : o = some a) (h1 : mc ≤ bc) (h2 : ms ≤ bs) (hr : xm_Run g M' d' [.ref a, a1, a2, a3] h mc ms (fun v h' => ∃ r, v = some (va_rf r) ∧ Qf r h') xm_no) (k : ∀ r h', Qf r h' → xm_W g Γ n ls (va_rf r :: st) h' (bc - mc) (bs - ms)) : xm_W g Γ pc ls (a3 :: a2 :: a1 :: va_rf o :: st) h bc bs := by
  subst ho
  refine xm_use hi ⟨hs, mc, ms, ⟨h1, h2⟩, ?_⟩
  exact xm_Run.mono hr (fun v h' q => by
    obtain ⟨r, rfl, q⟩ := q
    exact k r h' q) (fun E q h' x => x)
theorem xw_tsu3 {M' : xm_M} {d' mc ms : Nat} {Qf : xm_H → Prop} {a1 a2 a3 : Value} (hi : xm_Imp g Γ pc (xi_inv g M' d' 3 n)) (hs : xm_stk 3 (a3 :: a2 :: a1 :: st) = true) (h1 : mc ≤ bc) (h2 : ms ≤ bs) (hr : xm_Run g M' d' [a1, a2, a3] h mc ms (fun v h' => v = none ∧ Qf h') xm_no) (k : ∀ h', Qf h' → xm_W g Γ n ls st h' (bc - mc) (bs - ms)) : xm_W g Γ pc ls (a3 :: a2 :: a1 :: st) h bc bs := by
  refine xm_use hi ⟨hs, mc, ms, ⟨h1, h2⟩, ?_⟩
  exact xm_Run.mono hr (fun v h' q => by
    obtain ⟨rfl, q⟩ := q
    exact k h' q) (fun E q h' x => x)
theorem xw_tvu3 {ci : Nat} {M' : xm_M} {d' mc ms : Nat} {Qf : xm_H → Prop} {a1 a2 a3 : Value} {u : Unit} (hi : xm_Imp g Γ pc (xi_vir g ci M' d' 3 n)) (hs : xm_stk 3 (a3 :: a2 :: a1 :: va_rf o :: st) = true) (ho : o = some a) (hc : xh_is ci h a = some u) (h1 : mc ≤ bc) (h2 : ms ≤ bs) (hr : xm_Run g M' d' [.ref a, a1, a2, a3] h mc ms (fun v h' => v = none ∧ Qf h') xm_no) (k : ∀ h', Qf h' → xm_W g Γ n ls st h' (bc - mc) (bs - ms)) : xm_W g Γ pc ls (a3 :: a2 :: a1 :: va_rf o :: st) h bc bs := by
  subst ho
  obtain ⟨w, fs, q⟩ := xh_is_s hc
  refine xm_use hi ⟨hs, w, fs, mc, ms, q, ⟨h1, h2⟩, ?_⟩
  exact xm_Run.mono hr (fun v h' q => by
    obtain ⟨rfl, q⟩ := q
    exact k h' q) (fun E q h' x => x)
theorem xw_tXsu3 {M' : xm_M} {d' mc ms : Nat} {X : xm_X} {Qf : xm_H → Prop} {a1 a2 a3 : Value} (hi : xm_Imp g Γ pc (xi_invX g M' d' 3 n X)) (hs : xm_stk 3 (a3 :: a2 :: a1 :: st) = true) (h1 : mc ≤ bc) (h2 : ms ≤ bs) (hr : xm_Run g M' d' [a1, a2, a3] h mc ms (fun v h' => v = none ∧ Qf h') X) (k : ∀ h', Qf h' → xm_W g Γ n ls st h' (bc - mc) (bs - ms)) : xm_W g Γ pc ls (a3 :: a2 :: a1 :: st) h bc bs := by
  refine xm_use hi ⟨hs, mc, ms, ⟨h1, h2⟩, ?_⟩
  exact xm_Run.mono hr (fun v h' q => by
    obtain ⟨rfl, q⟩ := q
    exact k h' q) (fun E q h' x => x)
theorem xw_tXvu3 {ci : Nat} {M' : xm_M} {d' mc ms : Nat} {X : xm_X} {Qf : xm_H → Prop} {a1 a2 a3 : Value} {u : Unit} (hi : xm_Imp g Γ pc (xi_virX g ci M' d' 3 n X)) (hs : xm_stk 3 (a3 :: a2 :: a1 :: va_rf o :: st) = true) (ho : o = some a) (hc : xh_is ci h a = some u) (h1 : mc ≤ bc) (h2 : ms ≤ bs) (hr : xm_Run g M' d' [.ref a, a1, a2, a3] h mc ms (fun v h' => v = none ∧ Qf h') X) (k : ∀ h', Qf h' → xm_W g Γ n ls st h' (bc - mc) (bs - ms)) : xm_W g Γ pc ls (a3 :: a2 :: a1 :: va_rf o :: st) h bc bs := by
  subst ho
  obtain ⟨w, fs, q⟩ := xh_is_s hc
  refine xm_use hi ⟨hs, w, fs, mc, ms, q, ⟨h1, h2⟩, ?_⟩
  exact xm_Run.mono hr (fun v h' q => by
    obtain ⟨rfl, q⟩ := q
    exact k h' q) (fun E q h' x => x)
theorem xw_tHvu3 {ci : Nat} {M' : xm_M} {d' mc ms : Nat} {XH : xm_X} {hs0 : List (String × Nat)} {Qf : xm_H → Prop} {a1 a2 a3 : Value} {u : Unit} (hi : xm_Imp g Γ pc (xi_virH g ci M' d' 3 n hs0)) (hs : xm_stk 3 (a3 :: a2 :: a1 :: va_rf o :: st) = true) (ho : o = some a) (hc : xh_is ci h a = some u) (h1 : mc ≤ bc) (h2 : ms ≤ bs) (hr : xm_Run g M' d' [.ref a, a1, a2, a3] h mc ms (fun v h' => v = none ∧ Qf h') XH) (k : ∀ h', Qf h' → xm_W g Γ n ls st h' (bc - mc) (bs - ms)) (kx : ∀ E q h', XH E q h' → xm_hnd hs0 E (fun t => xm_W g Γ t ls [.ref q] h' (bc - mc) (bs - ms))) : xm_W g Γ pc ls (a3 :: a2 :: a1 :: va_rf o :: st) h bc bs := by
  subst ho
  obtain ⟨w, fs, q⟩ := xh_is_s hc
  refine xm_use hi ⟨hs, w, fs, mc, ms, q, ⟨h1, h2⟩, ?_⟩
  exact xm_Run.mono hr (fun v h' q => by
    obtain ⟨rfl, q⟩ := q
    exact k h' q) kx
theorem xw_tpu3 {M' : xm_M} {d' mc ms : Nat} {Qf : xm_H → Prop} {a1 a2 a3 : Value} (hi : xm_Imp g Γ pc (xi_spe g M' d' 3 n)) (hs : xm_stk 3 (a3 :: a2 :: a1 :: va_rf o :: st) = true) (ho : o = some a) (h1 : mc ≤ bc) (h2 : ms ≤ bs) (hr : xm_Run g M' d' [.ref a, a1, a2, a3] h mc ms (fun v h' => v = none ∧ Qf h') xm_no) (k : ∀ h', Qf h' → xm_W g Γ n ls st h' (bc - mc) (bs - ms)) : xm_W g Γ pc ls (a3 :: a2 :: a1 :: va_rf o :: st) h bc bs := by
  subst ho
  refine xm_use hi ⟨hs, mc, ms, ⟨h1, h2⟩, ?_⟩
  exact xm_Run.mono hr (fun v h' q => by
    obtain ⟨rfl, q⟩ := q
    exact k h' q) (fun E q h' x => x)
theorem xw_hv4 {ci : Nat} {M' : xm_M} {d' : Nat} {h' : xm_H} {a1 a2 a3 a4 : Value} {r : Value} {u : Unit} (hi : xm_Imp g Γ pc (xi_vir g ci M' d' 4 n)) (hs : xm_stk 4 (a4 :: a3 :: a2 :: a1 :: va_rf o :: st) = true) (ho : o = some a) (hc : xh_is ci h a = some u) (hr : ∀ (Q : xm_P) (X : xm_X), Q (some r) h' → xm_Run g M' d' [.ref a, a1, a2, a3, a4] h 0 0 Q X) (k : xm_W g Γ n ls (r :: st) h' bc bs) : xm_W g Γ pc ls (a4 :: a3 :: a2 :: a1 :: va_rf o :: st) h bc bs := by
  subst ho
  obtain ⟨w, fs, q⟩ := xh_is_s hc
  exact xm_use hi ⟨hs, w, fs, 0, 0, q, ⟨Nat.zero_le _, Nat.zero_le _⟩, hr _ _ k⟩
theorem xw_pv4 {M' : xm_M} {d' : Nat} {h' : xm_H} {a1 a2 a3 a4 : Value} {r : Value} (hi : xm_Imp g Γ pc (xi_spe g M' d' 4 n)) (hs : xm_stk 4 (a4 :: a3 :: a2 :: a1 :: va_rf o :: st) = true) (ho : o = some a) (hr : ∀ (Q : xm_P) (X : xm_X), Q (some r) h' → xm_Run g M' d' [.ref a, a1, a2, a3, a4] h 0 0 Q X) (k : xm_W g Γ n ls (r :: st) h' bc bs) : xm_W g Γ pc ls (a4 :: a3 :: a2 :: a1 :: va_rf o :: st) h bc bs := by
  subst ho
  exact xm_use hi ⟨hs, 0, 0, ⟨Nat.zero_le _, Nat.zero_le _⟩, hr _ _ k⟩
theorem xw_hu4 {ci : Nat} {M' : xm_M} {d' : Nat} {h' : xm_H} {a1 a2 a3 a4 : Value} {u : Unit} (hi : xm_Imp g Γ pc (xi_vir g ci M' d' 4 n)) (hs : xm_stk 4 (a4 :: a3 :: a2 :: a1 :: va_rf o :: st) = true) (ho : o = some a) (hc : xh_is ci h a = some u) (hr : ∀ (Q : xm_P) (X : xm_X), Q (none) h' → xm_Run g M' d' [.ref a, a1, a2, a3, a4] h 0 0 Q X) (k : xm_W g Γ n ls (st) h' bc bs) : xm_W g Γ pc ls (a4 :: a3 :: a2 :: a1 :: va_rf o :: st) h bc bs := by
  subst ho
  obtain ⟨w, fs, q⟩ := xh_is_s hc
  exact xm_use hi ⟨hs, w, fs, 0, 0, q, ⟨Nat.zero_le _, Nat.zero_le _⟩, hr _ _ k⟩
theorem xw_pu4 {M' : xm_M} {d' : Nat} {h' : xm_H} {a1 a2 a3 a4 : Value} (hi : xm_Imp g Γ pc (xi_spe g M' d' 4 n)) (hs : xm_stk 4 (a4 :: a3 :: a2 :: a1 :: va_rf o :: st) = true) (ho : o = some a) (hr : ∀ (Q : xm_P) (X : xm_X), Q (none) h' → xm_Run g M' d' [.ref a, a1, a2, a3, a4] h 0 0 Q X) (k : xm_W g Γ n ls (st) h' bc bs) : xm_W g Γ pc ls (a4 :: a3 :: a2 :: a1 :: va_rf o :: st) h bc bs := by
  subst ho
  exact xm_use hi ⟨hs, 0, 0, ⟨Nat.zero_le _, Nat.zero_le _⟩, hr _ _ k⟩
theorem xw_tsi4 {M' : xm_M} {d' mc ms : Nat} {Qf : Int32 → xm_H → Prop} {a1 a2 a3 a4 : Value} (hi : xm_Imp g Γ pc (xi_inv g M' d' 4 n)) (hs : xm_stk 4 (a4 :: a3 :: a2 :: a1 :: st) = true) (h1 : mc ≤ bc) (h2 : ms ≤ bs) (hr : xm_Run g M' d' [a1, a2, a3, a4] h mc ms (fun v h' => ∃ r, v = some (.int r) ∧ Qf r h') xm_no) (k : ∀ r h', Qf r h' → xm_W g Γ n ls (.int r :: st) h' (bc - mc) (bs - ms)) : xm_W g Γ pc ls (a4 :: a3 :: a2 :: a1 :: st) h bc bs := by
  refine xm_use hi ⟨hs, mc, ms, ⟨h1, h2⟩, ?_⟩
  exact xm_Run.mono hr (fun v h' q => by
    obtain ⟨r, rfl, q⟩ := q
    exact k r h' q) (fun E q h' x => x)
theorem xw_tvi4 {ci : Nat} {M' : xm_M} {d' mc ms : Nat} {Qf : Int32 → xm_H → Prop} {a1 a2 a3 a4 : Value} {u : Unit} (hi : xm_Imp g Γ pc (xi_vir g ci M' d' 4 n)) (hs : xm_stk 4 (a4 :: a3 :: a2 :: a1 :: va_rf o :: st) = true) (ho : o = some a) (hc : xh_is ci h a = some u) (h1 : mc ≤ bc) (h2 : ms ≤ bs) (hr : xm_Run g M' d' [.ref a, a1, a2, a3, a4] h mc ms (fun v h' => ∃ r, v = some (.int r) ∧ Qf r h') xm_no) (k : ∀ r h', Qf r h' → xm_W g Γ n ls (.int r :: st) h' (bc - mc) (bs - ms)) : xm_W g Γ pc ls (a4 :: a3 :: a2 :: a1 :: va_rf o :: st) h bc bs := by
  subst ho
  obtain ⟨w, fs, q⟩ := xh_is_s hc
  refine xm_use hi ⟨hs, w, fs, mc, ms, q, ⟨h1, h2⟩, ?_⟩
  exact xm_Run.mono hr (fun v h' q => by
    obtain ⟨r, rfl, q⟩ := q
    exact k r h' q) (fun E q h' x => x)
theorem xw_tXsi4 {M' : xm_M} {d' mc ms : Nat} {X : xm_X} {Qf : Int32 → xm_H → Prop} {a1 a2 a3 a4 : Value} (hi : xm_Imp g Γ pc (xi_invX g M' d' 4 n X)) (hs : xm_stk 4 (a4 :: a3 :: a2 :: a1 :: st) = true) (h1 : mc ≤ bc) (h2 : ms ≤ bs) (hr : xm_Run g M' d' [a1, a2, a3, a4] h mc ms (fun v h' => ∃ r, v = some (.int r) ∧ Qf r h') X) (k : ∀ r h', Qf r h' → xm_W g Γ n ls (.int r :: st) h' (bc - mc) (bs - ms)) : xm_W g Γ pc ls (a4 :: a3 :: a2 :: a1 :: st) h bc bs := by
  refine xm_use hi ⟨hs, mc, ms, ⟨h1, h2⟩, ?_⟩
  exact xm_Run.mono hr (fun v h' q => by
    obtain ⟨r, rfl, q⟩ := q
    exact k r h' q) (fun E q h' x => x)
theorem xw_tXvi4 {ci : Nat} {M' : xm_M} {d' mc ms : Nat} {X : xm_X} {Qf : Int32 → xm_H → Prop} {a1 a2 a3 a4 : Value} {u : Unit} (hi : xm_Imp g Γ pc (xi_virX g ci M' d' 4 n X)) (hs : xm_stk 4 (a4 :: a3 :: a2 :: a1 :: va_rf o :: st) = true) (ho : o = some a) (hc : xh_is ci h a = some u) (h1 : mc ≤ bc) (h2 : ms ≤ bs) (hr : xm_Run g M' d' [.ref a, a1, a2, a3, a4] h mc ms (fun v h' => ∃ r, v = some (.int r) ∧ Qf r h') X) (k : ∀ r h', Qf r h' → xm_W g Γ n ls (.int r :: st) h' (bc - mc) (bs - ms)) : xm_W g Γ pc ls (a4 :: a3 :: a2 :: a1 :: va_rf o :: st) h bc bs := by
  subst ho
  obtain ⟨w, fs, q⟩ := xh_is_s hc
  refine xm_use hi ⟨hs, w, fs, mc, ms, q, ⟨h1, h2⟩, ?_⟩
  exact xm_Run.mono hr (fun v h' q => by
    obtain ⟨r, rfl, q⟩ := q
    exact k r h' q) (fun E q h' x => x)
theorem xw_tHvi4 {ci : Nat} {M' : xm_M} {d' mc ms : Nat} {XH : xm_X} {hs0 : List (String × Nat)} {Qf : Int32 → xm_H → Prop} {a1 a2 a3 a4 : Value} {u : Unit} (hi : xm_Imp g Γ pc (xi_virH g ci M' d' 4 n hs0)) (hs : xm_stk 4 (a4 :: a3 :: a2 :: a1 :: va_rf o :: st) = true) (ho : o = some a) (hc : xh_is ci h a = some u) (h1 : mc ≤ bc) (h2 : ms ≤ bs) (hr : xm_Run g M' d' [.ref a, a1, a2, a3, a4] h mc ms (fun v h' => ∃ r, v = some (.int r) ∧ Qf r h') XH) (k : ∀ r h', Qf r h' → xm_W g Γ n ls (.int r :: st) h' (bc - mc) (bs - ms)) (kx : ∀ E q h', XH E q h' → xm_hnd hs0 E (fun t => xm_W g Γ t ls [.ref q] h' (bc - mc) (bs - ms))) : xm_W g Γ pc ls (a4 :: a3 :: a2 :: a1 :: va_rf o :: st) h bc bs := by
  subst ho
  obtain ⟨w, fs, q⟩ := xh_is_s hc
  refine xm_use hi ⟨hs, w, fs, mc, ms, q, ⟨h1, h2⟩, ?_⟩
  exact xm_Run.mono hr (fun v h' q => by
    obtain ⟨r, rfl, q⟩ := q
    exact k r h' q) kx
theorem xw_tpi4 {M' : xm_M} {d' mc ms : Nat} {Qf : Int32 → xm_H → Prop} {a1 a2 a3 a4 : Value} (hi : xm_Imp g Γ pc (xi_spe g M' d' 4 n)) (hs : xm_stk 4 (a4 :: a3 :: a2 :: a1 :: va_rf o :: st) = true) (ho : o = some a) (h1 : mc ≤ bc) (h2 : ms ≤ bs) (hr : xm_Run g M' d' [.ref a, a1, a2, a3, a4] h mc ms (fun v h' => ∃ r, v = some (.int r) ∧ Qf r h') xm_no) (k : ∀ r h', Qf r h' → xm_W g Γ n ls (.int r :: st) h' (bc - mc) (bs - ms)) : xm_W g Γ pc ls (a4 :: a3 :: a2 :: a1 :: va_rf o :: st) h bc bs := by
  subst ho
  refine xm_use hi ⟨hs, mc, ms, ⟨h1, h2⟩, ?_⟩
  exact xm_Run.mono hr (fun v h' q => by
    obtain ⟨r, rfl, q⟩ := q
    exact k r h' q) (fun E q h' x => x)
theorem xw_tsl4 {M' : xm_M} {d' mc ms : Nat} {Qf : Int64 → xm_H → Prop} {a1 a2 a3 a4 : Value} (hi : xm_Imp g Γ pc (xi_inv g M' d' 4 n)) (hs : xm_stk 4 (a4 :: a3 :: a2 :: a1 :: st) = true) (h1 : mc ≤ bc) (h2 : ms ≤ bs) (hr : xm_Run g M' d' [a1, a2, a3, a4] h mc ms (fun v h' => ∃ r, v = some (.long r) ∧ Qf r h') xm_no) (k : ∀ r h', Qf r h' → xm_W g Γ n ls (.long r :: st) h' (bc - mc) (bs - ms)) : xm_W g Γ pc ls (a4 :: a3 :: a2 :: a1 :: st) h bc bs := by
  refine xm_use hi ⟨hs, mc, ms, ⟨h1, h2⟩, ?_⟩
  exact xm_Run.mono hr (fun v h' q => by
    obtain ⟨r, rfl, q⟩ := q
    exact k r h' q) (fun E q h' x => x)
theorem xw_tvl4 {ci : Nat} {M' : xm_M} {d' mc ms : Nat} {Qf : Int64 → xm_H → Prop} {a1 a2 a3 a4 : Value} {u : Unit} (hi : xm_Imp g Γ pc (xi_vir g ci M' d' 4 n)) (hs : xm_stk 4 (a4 :: a3 :: a2 :: a1 :: va_rf o :: st) = true) (ho : o = some a) (hc : xh_is ci h a = some u) (h1 : mc ≤ bc) (h2 : ms ≤ bs) (hr : xm_Run g M' d' [.ref a, a1, a2, a3, a4] h mc ms (fun v h' => ∃ r, v = some (.long r) ∧ Qf r h') xm_no) (k : ∀ r h', Qf r h' → xm_W g Γ n ls (.long r :: st) h' (bc - mc) (bs - ms)) : xm_W g Γ pc ls (a4 :: a3 :: a2 :: a1 :: va_rf o :: st) h bc bs := by
  subst ho
  obtain ⟨w, fs, q⟩ := xh_is_s hc
  refine xm_use hi ⟨hs, w, fs, mc, ms, q, ⟨h1, h2⟩, ?_⟩
  exact xm_Run.mono hr (fun v h' q => by
    obtain ⟨r, rfl, q⟩ := q
    exact k r h' q) (fun E q h' x => x)
theorem xw_tXsl4 {M' : xm_M} {d' mc ms : Nat} {X : xm_X} {Qf : Int64 → xm_H → Prop} {a1 a2 a3 a4 : Value} (hi : xm_Imp g Γ pc (xi_invX g M' d' 4 n X)) (hs : xm_stk 4 (a4 :: a3 :: a2 :: a1 :: st) = true) (h1 : mc ≤ bc) (h2 : ms ≤ bs) (hr : xm_Run g M' d' [a1, a2, a3, a4] h mc ms (fun v h' => ∃ r, v = some (.long r) ∧ Qf r h') X) (k : ∀ r h', Qf r h' → xm_W g Γ n ls (.long r :: st) h' (bc - mc) (bs - ms)) : xm_W g Γ pc ls (a4 :: a3 :: a2 :: a1 :: st) h bc bs := by
  refine xm_use hi ⟨hs, mc, ms, ⟨h1, h2⟩, ?_⟩
  exact xm_Run.mono hr (fun v h' q => by
    obtain ⟨r, rfl, q⟩ := q
    exact k r h' q) (fun E q h' x => x)
theorem xw_tXvl4 {ci : Nat} {M' : xm_M} {d' mc ms : Nat} {X : xm_X} {Qf : Int64 → xm_H → Prop} {a1 a2 a3 a4 : Value} {u : Unit} (hi : xm_Imp g Γ pc (xi_virX g ci M' d' 4 n X)) (hs : xm_stk 4 (a4 :: a3 :: a2 :: a1 :: va_rf o :: st) = true) (ho : o = some a) (hc : xh_is ci h a = some u) (h1 : mc ≤ bc) (h2 : ms ≤ bs) (hr : xm_Run g M' d' [.ref a, a1, a2, a3, a4] h mc ms (fun v h' => ∃ r, v = some (.long r) ∧ Qf r h') X) (k : ∀ r h', Qf r h' → xm_W g Γ n ls (.long r :: st) h' (bc - mc) (bs - ms)) : xm_W g Γ pc ls (a4 :: a3 :: a2 :: a1 :: va_rf o :: st) h bc bs := by
  subst ho
  obtain ⟨w, fs, q⟩ := xh_is_s hc
  refine xm_use hi ⟨hs, w, fs, mc, ms, q, ⟨h1, h2⟩, ?_⟩
  exact xm_Run.mono hr (fun v h' q => by
    obtain ⟨r, rfl, q⟩ := q
    exact k r h' q) (fun E q h' x => x)
theorem xw_tHvl4 {ci : Nat} {M' : xm_M} {d' mc ms : Nat} {XH : xm_X} {hs0 : List (String × Nat)} {Qf : Int64 → xm_H → Prop} {a1 a2 a3 a4 : Value} {u : Unit} (hi : xm_Imp g Γ pc (xi_virH g ci M' d' 4 n hs0)) (hs : xm_stk 4 (a4 :: a3 :: a2 :: a1 :: va_rf o :: st) = true) (ho : o = some a) (hc : xh_is ci h a = some u) (h1 : mc ≤ bc) (h2 : ms ≤ bs) (hr : xm_Run g M' d' [.ref a, a1, a2, a3, a4] h mc ms (fun v h' => ∃ r, v = some (.long r) ∧ Qf r h') XH) (k : ∀ r h', Qf r h' → xm_W g Γ n ls (.long r :: st) h' (bc - mc) (bs - ms)) (kx : ∀ E q h', XH E q h' → xm_hnd hs0 E (fun t => xm_W g Γ t ls [.ref q] h' (bc - mc) (bs - ms))) : xm_W g Γ pc ls (a4 :: a3 :: a2 :: a1 :: va_rf o :: st) h bc bs := by
  subst ho
  obtain ⟨w, fs, q⟩ := xh_is_s hc
  refine xm_use hi ⟨hs, w, fs, mc, ms, q, ⟨h1, h2⟩, ?_⟩
  exact xm_Run.mono hr (fun v h' q => by
    obtain ⟨r, rfl, q⟩ := q
    exact k r h' q) kx
theorem xw_tpl4 {M' : xm_M} {d' mc ms : Nat} {Qf : Int64 → xm_H → Prop} {a1 a2 a3 a4 : Value} (hi : xm_Imp g Γ pc (xi_spe g M' d' 4 n)) (hs : xm_stk 4 (a4 :: a3 :: a2 :: a1 :: va_rf o :: st) = true) (ho : o = some a) (h1 : mc ≤ bc) (h2 : ms ≤ bs) (hr : xm_Run g M' d' [.ref a, a1, a2, a3, a4] h mc ms (fun v h' => ∃ r, v = some (.long r) ∧ Qf r h') xm_no) (k : ∀ r h', Qf r h' → xm_W g Γ n ls (.long r :: st) h' (bc - mc) (bs - ms)) : xm_W g Γ pc ls (a4 :: a3 :: a2 :: a1 :: va_rf o :: st) h bc bs := by
  subst ho
  refine xm_use hi ⟨hs, mc, ms, ⟨h1, h2⟩, ?_⟩
  exact xm_Run.mono hr (fun v h' q => by
    obtain ⟨r, rfl, q⟩ := q
    exact k r h' q) (fun E q h' x => x)
theorem xw_tsf4 {M' : xm_M} {d' mc ms : Nat} {Qf : UInt32 → xm_H → Prop} {a1 a2 a3 a4 : Value} (hi : xm_Imp g Γ pc (xi_inv g M' d' 4 n)) (hs : xm_stk 4 (a4 :: a3 :: a2 :: a1 :: st) = true) (h1 : mc ≤ bc) (h2 : ms ≤ bs) (hr : xm_Run g M' d' [a1, a2, a3, a4] h mc ms (fun v h' => ∃ r, v = some (.float r) ∧ Qf r h') xm_no) (k : ∀ r h', Qf r h' → xm_W g Γ n ls (.float r :: st) h' (bc - mc) (bs - ms)) : xm_W g Γ pc ls (a4 :: a3 :: a2 :: a1 :: st) h bc bs := by
  refine xm_use hi ⟨hs, mc, ms, ⟨h1, h2⟩, ?_⟩
  exact xm_Run.mono hr (fun v h' q => by
    obtain ⟨r, rfl, q⟩ := q
    exact k r h' q) (fun E q h' x => x)
theorem xw_tvf4 {ci : Nat} {M' : xm_M} {d' mc ms : Nat} {Qf : UInt32 → xm_H → Prop} {a1 a2 a3 a4 : Value} {u : Unit} (hi : xm_Imp g Γ pc (xi_vir g ci M' d' 4 n)) (hs : xm_stk 4 (a4 :: a3 :: a2 :: a1 :: va_rf o :: st) = true) (ho : o = some a) (hc : xh_is ci h a = some u) (h1 : mc ≤ bc) (h2 : ms ≤ bs) (hr : xm_Run g M' d' [.ref a, a1, a2, a3, a4] h mc ms (fun v h' => ∃ r, v = some (.float r) ∧ Qf r h') xm_no) (k : ∀ r h', Qf r h' → xm_W g Γ n ls (.float r :: st) h' (bc - mc) (bs - ms)) : xm_W g Γ pc ls (a4 :: a3 :: a2 :: a1 :: va_rf o :: st) h bc bs := by
  subst ho
  obtain ⟨w, fs, q⟩ := xh_is_s hc
  refine xm_use hi ⟨hs, w, fs, mc, ms, q, ⟨h1, h2⟩, ?_⟩
  exact xm_Run.mono hr (fun v h' q => by
    obtain ⟨r, rfl, q⟩ := q
    exact k r h' q) (fun E q h' x => x)
theorem xw_tXsf4 {M' : xm_M} {d' mc ms : Nat} {X : xm_X} {Qf : UInt32 → xm_H → Prop} {a1 a2 a3 a4 : Value} (hi : xm_Imp g Γ pc (xi_invX g M' d' 4 n X)) (hs : xm_stk 4 (a4 :: a3 :: a2 :: a1 :: st) = true) (h1 : mc ≤ bc) (h2 : ms ≤ bs) (hr : xm_Run g M' d' [a1, a2, a3, a4] h mc ms (fun v h' => ∃ r, v = some (.float r) ∧ Qf r h') X) (k : ∀ r h', Qf r h' → xm_W g Γ n ls (.float r :: st) h' (bc - mc) (bs - ms)) : xm_W g Γ pc ls (a4 :: a3 :: a2 :: a1 :: st) h bc bs := by
  refine xm_use hi ⟨hs, mc, ms, ⟨h1, h2⟩, ?_⟩
  exact xm_Run.mono hr (fun v h' q => by
    obtain ⟨r, rfl, q⟩ := q
    exact k r h' q) (fun E q h' x => x)
theorem xw_tXvf4 {ci : Nat} {M' : xm_M} {d' mc ms : Nat} {X : xm_X} {Qf : UInt32 → xm_H → Prop} {a1 a2 a3 a4 : Value} {u : Unit} (hi : xm_Imp g Γ pc (xi_virX g ci M' d' 4 n X)) (hs : xm_stk 4 (a4 :: a3 :: a2 :: a1 :: va_rf o :: st) = true) (ho : o = some a) (hc : xh_is ci h a = some u) (h1 : mc ≤ bc) (h2 : ms ≤ bs) (hr : xm_Run g M' d' [.ref a, a1, a2, a3, a4] h mc ms (fun v h' => ∃ r, v = some (.float r) ∧ Qf r h') X) (k : ∀ r h', Qf r h' → xm_W g Γ n ls (.float r :: st) h' (bc - mc) (bs - ms)) : xm_W g Γ pc ls (a4 :: a3 :: a2 :: a1 :: va_rf o :: st) h bc bs := by
  subst ho
  obtain ⟨w, fs, q⟩ := xh_is_s hc
  refine xm_use hi ⟨hs, w, fs, mc, ms, q, ⟨h1, h2⟩, ?_⟩
  exact xm_Run.mono hr (fun v h' q => by
    obtain ⟨r, rfl, q⟩ := q
    exact k r h' q) (fun E q h' x => x)
theorem xw_tHvf4 {ci : Nat} {M' : xm_M} {d' mc ms : Nat} {XH : xm_X} {hs0 : List (String × Nat)} {Qf : UInt32 → xm_H → Prop} {a1 a2 a3 a4 : Value} {u : Unit} (hi : xm_Imp g Γ pc (xi_virH g ci M' d' 4 n hs0)) (hs : xm_stk 4 (a4 :: a3 :: a2 :: a1 :: va_rf o :: st) = true) (ho : o = some a) (hc : xh_is ci h a = some u) (h1 : mc ≤ bc) (h2 : ms ≤ bs) (hr : xm_Run g M' d' [.ref a, a1, a2, a3, a4] h mc ms (fun v h' => ∃ r, v = some (.float r) ∧ Qf r h') XH) (k : ∀ r h', Qf r h' → xm_W g Γ n ls (.float r :: st) h' (bc - mc) (bs - ms)) (kx : ∀ E q h', XH E q h' → xm_hnd hs0 E (fun t => xm_W g Γ t ls [.ref q] h' (bc - mc) (bs - ms))) : xm_W g Γ pc ls (a4 :: a3 :: a2 :: a1 :: va_rf o :: st) h bc bs := by
  subst ho
  obtain ⟨w, fs, q⟩ := xh_is_s hc
  refine xm_use hi ⟨hs, w, fs, mc, ms, q, ⟨h1, h2⟩, ?_⟩
  exact xm_Run.mono hr (fun v h' q => by
    obtain ⟨r, rfl, q⟩ := q
    exact k r h' q) kx
theorem xw_tpf4 {M' : xm_M} {d' mc ms : Nat} {Qf : UInt32 → xm_H → Prop} {a1 a2 a3 a4 : Value} (hi : xm_Imp g Γ pc (xi_spe g M' d' 4 n)) (hs : xm_stk 4 (a4 :: a3 :: a2 :: a1 :: va_rf o :: st) = true) (ho : o = some a) (h1 : mc ≤ bc) (h2 : ms ≤ bs) (hr : xm_Run g M' d' [.ref a, a1, a2, a3, a4] h mc ms (fun v h' => ∃ r, v = some (.float r) ∧ Qf r h') xm_no) (k : ∀ r h', Qf r h' → xm_W g Γ n ls (.float r :: st) h' (bc - mc) (bs - ms)) : xm_W g Γ pc ls (a4 :: a3 :: a2 :: a1 :: va_rf o :: st) h bc bs := by
  subst ho
  refine xm_use hi ⟨hs, mc, ms, ⟨h1, h2⟩, ?_⟩
  exact xm_Run.mono hr (fun v h' q => by
    obtain ⟨r, rfl, q⟩ := q
    exact k r h' q) (fun E q h' x => x)
theorem xw_tsd4 {M' : xm_M} {d' mc ms : Nat} {Qf : UInt64 → xm_H → Prop} {a1 a2 a3 a4 : Value} (hi : xm_Imp g Γ pc (xi_inv g M' d' 4 n)) (hs : xm_stk 4 (a4 :: a3 :: a2 :: a1 :: st) = true) (h1 : mc ≤ bc) (h2 : ms ≤ bs) (hr : xm_Run g M' d' [a1, a2, a3, a4] h mc ms (fun v h' => ∃ r, v = some (.double r) ∧ Qf r h') xm_no) (k : ∀ r h', Qf r h' → xm_W g Γ n ls (.double r :: st) h' (bc - mc) (bs - ms)) : xm_W g Γ pc ls (a4 :: a3 :: a2 :: a1 :: st) h bc bs := by
  refine xm_use hi ⟨hs, mc, ms, ⟨h1, h2⟩, ?_⟩
  exact xm_Run.mono hr (fun v h' q => by
    obtain ⟨r, rfl, q⟩ := q
    exact k r h' q) (fun E q h' x => x)
theorem xw_tvd4 {ci : Nat} {M' : xm_M} {d' mc ms : Nat} {Qf : UInt64 → xm_H → Prop} {a1 a2 a3 a4 : Value} {u : Unit} (hi : xm_Imp g Γ pc (xi_vir g ci M' d' 4 n)) (hs : xm_stk 4 (a4 :: a3 :: a2 :: a1 :: va_rf o :: st) = true) (ho : o = some a) (hc : xh_is ci h a = some u) (h1 : mc ≤ bc) (h2 : ms ≤ bs) (hr : xm_Run g M' d' [.ref a, a1, a2, a3, a4] h mc ms (fun v h' => ∃ r, v = some (.double r) ∧ Qf r h') xm_no) (k : ∀ r h', Qf r h' → xm_W g Γ n ls (.double r :: st) h' (bc - mc) (bs - ms)) : xm_W g Γ pc ls (a4 :: a3 :: a2 :: a1 :: va_rf o :: st) h bc bs := by
  subst ho
  obtain ⟨w, fs, q⟩ := xh_is_s hc
  refine xm_use hi ⟨hs, w, fs, mc, ms, q, ⟨h1, h2⟩, ?_⟩
  exact xm_Run.mono hr (fun v h' q => by
    obtain ⟨r, rfl, q⟩ := q
    exact k r h' q) (fun E q h' x => x)
theorem xw_tXsd4 {M' : xm_M} {d' mc ms : Nat} {X : xm_X} {Qf : UInt64 → xm_H → Prop} {a1 a2 a3 a4 : Value} (hi : xm_Imp g Γ pc (xi_invX g M' d' 4 n X)) (hs : xm_stk 4 (a4 :: a3 :: a2 :: a1 :: st) = true) (h1 : mc ≤ bc) (h2 : ms ≤ bs) (hr : xm_Run g M' d' [a1, a2, a3, a4] h mc ms (fun v h' => ∃ r, v = some (.double r) ∧ Qf r h') X) (k : ∀ r h', Qf r h' → xm_W g Γ n ls (.double r :: st) h' (bc - mc) (bs - ms)) : xm_W g Γ pc ls (a4 :: a3 :: a2 :: a1 :: st) h bc bs := by
  refine xm_use hi ⟨hs, mc, ms, ⟨h1, h2⟩, ?_⟩
  exact xm_Run.mono hr (fun v h' q => by
    obtain ⟨r, rfl, q⟩ := q
    exact k r h' q) (fun E q h' x => x)
theorem xw_tXvd4 {ci : Nat} {M' : xm_M} {d' mc ms : Nat} {X : xm_X} {Qf : UInt64 → xm_H → Prop} {a1 a2 a3 a4 : Value} {u : Unit} (hi : xm_Imp g Γ pc (xi_virX g ci M' d' 4 n X)) (hs : xm_stk 4 (a4 :: a3 :: a2 :: a1 :: va_rf o :: st) = true) (ho : o = some a) (hc : xh_is ci h a = some u) (h1 : mc ≤ bc) (h2 : ms ≤ bs) (hr : xm_Run g M' d' [.ref a, a1, a2, a3, a4] h mc ms (fun v h' => ∃ r, v = some (.double r) ∧ Qf r h') X) (k : ∀ r h', Qf r h' → xm_W g Γ n ls (.double r :: st) h' (bc - mc) (bs - ms)) : xm_W g Γ pc ls (a4 :: a3 :: a2 :: a1 :: va_rf o :: st) h bc bs := by
  subst ho
  obtain ⟨w, fs, q⟩ := xh_is_s hc
  refine xm_use hi ⟨hs, w, fs, mc, ms, q, ⟨h1, h2⟩, ?_⟩
  exact xm_Run.mono hr (fun v h' q => by
    obtain ⟨r, rfl, q⟩ := q
    exact k r h' q) (fun E q h' x => x)
theorem xw_tHvd4 {ci : Nat} {M' : xm_M} {d' mc ms : Nat} {XH : xm_X} {hs0 : List (String × Nat)} {Qf : UInt64 → xm_H → Prop} {a1 a2 a3 a4 : Value} {u : Unit} (hi : xm_Imp g Γ pc (xi_virH g ci M' d' 4 n hs0)) (hs : xm_stk 4 (a4 :: a3 :: a2 :: a1 :: va_rf o :: st) = true) (ho : o = some a) (hc : xh_is ci h a = some u) (h1 : mc ≤ bc) (h2 : ms ≤ bs) (hr : xm_Run g M' d' [.ref a, a1, a2, a3, a4] h mc ms (fun v h' => ∃ r, v = some (.double r) ∧ Qf r h') XH) (k : ∀ r h', Qf r h' → xm_W g Γ n ls (.double r :: st) h' (bc - mc) (bs - ms)) (kx : ∀ E q h', XH E q h' → xm_hnd hs0 E (fun t => xm_W g Γ t ls [.ref q] h' (bc - mc) (bs - ms))) : xm_W g Γ pc ls (a4 :: a3 :: a2 :: a1 :: va_rf o :: st) h bc bs := by
  subst ho
  obtain ⟨w, fs, q⟩ := xh_is_s hc
  refine xm_use hi ⟨hs, w, fs, mc, ms, q, ⟨h1, h2⟩, ?_⟩
  exact xm_Run.mono hr (fun v h' q => by
    obtain ⟨r, rfl, q⟩ := q
    exact k r h' q) kx
theorem xw_tpd4 {M' : xm_M} {d' mc ms : Nat} {Qf : UInt64 → xm_H → Prop} {a1 a2 a3 a4 : Value} (hi : xm_Imp g Γ pc (xi_spe g M' d' 4 n)) (hs : xm_stk 4 (a4 :: a3 :: a2 :: a1 :: va_rf o :: st) = true) (ho : o = some a) (h1 : mc ≤ bc) (h2 : ms ≤ bs) (hr : xm_Run g M' d' [.ref a, a1, a2, a3, a4] h mc ms (fun v h' => ∃ r, v = some (.double r) ∧ Qf r h') xm_no) (k : ∀ r h', Qf r h' → xm_W g Γ n ls (.double r :: st) h' (bc - mc) (bs - ms)) : xm_W g Γ pc ls (a4 :: a3 :: a2 :: a1 :: va_rf o :: st) h bc bs := by
  subst ho
  refine xm_use hi ⟨hs, mc, ms, ⟨h1, h2⟩, ?_⟩
  exact xm_Run.mono hr (fun v h' q => by
    obtain ⟨r, rfl, q⟩ := q
    exact k r h' q) (fun E q h' x => x)
theorem xw_tsr4 {M' : xm_M} {d' mc ms : Nat} {Qf : Option Nat → xm_H → Prop} {a1 a2 a3 a4 : Value} (hi : xm_Imp g Γ pc (xi_inv g M' d' 4 n)) (hs : xm_stk 4 (a4 :: a3 :: a2 :: a1 :: st) = true) (h1 : mc ≤ bc) (h2 : ms ≤ bs) (hr : xm_Run g M' d' [a1, a2, a3, a4] h mc ms (fun v h' => ∃ r, v = some (va_rf r) ∧ Qf r h') xm_no) (k : ∀ r h', Qf r h' → xm_W g Γ n ls (va_rf r :: st) h' (bc - mc) (bs - ms)) : xm_W g Γ pc ls (a4 :: a3 :: a2 :: a1 :: st) h bc bs := by
  refine xm_use hi ⟨hs, mc, ms, ⟨h1, h2⟩, ?_⟩
  exact xm_Run.mono hr (fun v h' q => by
    obtain ⟨r, rfl, q⟩ := q
    exact k r h' q) (fun E q h' x => x)
theorem xw_tvr4 {ci : Nat} {M' : xm_M} {d' mc ms : Nat} {Qf : Option Nat → xm_H → Prop} {a1 a2 a3 a4 : Value} {u : Unit} (hi : xm_Imp g Γ pc (xi_vir g ci M' d' 4 n)) (hs : xm_stk 4 (a4 :: a3 :: a2 :: a1 :: va_rf o :: st) = true) (ho : o = some a) (hc : xh_is ci h a = some u) (h1 : mc ≤ bc) (h2 : ms ≤ bs) (hr : xm_Run g M' d' [.ref a, a1, a2, a3, a4] h mc ms (fun v h' => ∃ r, v = some (va_rf r) ∧ Qf r h') xm_no) (k : ∀ r h', Qf r h' → xm_W g Γ n ls (va_rf r :: st) h' (bc - mc) (bs - ms)) : xm_W g Γ pc ls (a4 :: a3 :: a2 :: a1 :: va_rf o :: st) h bc bs := by
  subst ho
  obtain ⟨w, fs, q⟩ := xh_is_s hc
  refine xm_use hi ⟨hs, w, fs, mc, ms, q, ⟨h1, h2⟩, ?_⟩
  exact xm_Run.mono hr (fun v h' q => by
    obtain ⟨r, rfl, q⟩ := q
    exact k r h' q) (fun E q h' x => x)
theorem xw_tXsr4 {M' : xm_M} {d' mc ms : Nat} {X : xm_X} {Qf : Option Nat → xm_H → Prop} {a1 a2 a3 a4 : Value} (hi : xm_Imp g Γ pc (xi_invX g M' d' 4 n X)) (hs : xm_stk 4 (a4 :: a3 :: a2 :: a1 :: st) = true) (h1 : mc ≤ bc) (h2 : ms ≤ bs) (hr : xm_Run g M' d' [a1, a2, a3, a4] h mc ms (fun v h' => ∃ r, v = some (va_rf r) ∧ Qf r h') X) (k : ∀ r h', Qf r h' → xm_W g Γ n ls (va_rf r :: st) h' (bc - mc) (bs - ms)) : xm_W g Γ pc ls (a4 :: a3 :: a2 :: a1 :: st) h bc bs := by
  refine xm_use hi ⟨hs, mc, ms, ⟨h1, h2⟩, ?_⟩
  exact xm_Run.mono hr (fun v h' q => by
    obtain ⟨r, rfl, q⟩ := q
    exact k r h' q) (fun E q h' x => x)
theorem xw_tXvr4 {ci : Nat} {M' : xm_M} {d' mc ms : Nat} {X : xm_X} {Qf : Option Nat → xm_H → Prop} {a1 a2 a3 a4 : Value} {u : Unit} (hi : xm_Imp g Γ pc (xi_virX g ci M' d' 4 n X)) (hs : xm_stk 4 (a4 :: a3 :: a2 :: a1 :: va_rf o :: st) = true) (ho : o = some a) (hc : xh_is ci h a = some u) (h1 : mc ≤ bc) (h2 : ms ≤ bs) (hr : xm_Run g M' d' [.ref a, a1, a2, a3, a4] h mc ms (fun v h' => ∃ r, v = some (va_rf r) ∧ Qf r h') X) (k : ∀ r h', Qf r h' → xm_W g Γ n ls (va_rf r :: st) h' (bc - mc) (bs - ms)) : xm_W g Γ pc ls (a4 :: a3 :: a2 :: a1 :: va_rf o :: st) h bc bs := by
  subst ho
  obtain ⟨w, fs, q⟩ := xh_is_s hc
  refine xm_use hi ⟨hs, w, fs, mc, ms, q, ⟨h1, h2⟩, ?_⟩
  exact xm_Run.mono hr (fun v h' q => by
    obtain ⟨r, rfl, q⟩ := q
    exact k r h' q) (fun E q h' x => x)
theorem xw_tHvr4 {ci : Nat} {M' : xm_M} {d' mc ms : Nat} {XH : xm_X} {hs0 : List (String × Nat)} {Qf : Option Nat → xm_H → Prop} {a1 a2 a3 a4 : Value} {u : Unit} (hi : xm_Imp g Γ pc (xi_virH g ci M' d' 4 n hs0)) (hs : xm_stk 4 (a4 :: a3 :: a2 :: a1 :: va_rf o :: st) = true) (ho : o = some a) (hc : xh_is ci h a = some u) (h1 : mc ≤ bc) (h2 : ms ≤ bs) (hr : xm_Run g M' d' [.ref a, a1, a2, a3, a4] h mc ms (fun v h' => ∃ r, v = some (va_rf r) ∧ Qf r h') XH) (k : ∀ r h', Qf r h' → xm_W g Γ n ls (va_rf r :: st) h' (bc - mc) (bs - ms)) (kx : ∀ E q h', XH E q h' → xm_hnd hs0 E (fun t => xm_W g Γ t ls [.ref q] h' (bc - mc) (bs - ms))) : xm_W g Γ pc ls (a4 :: a3 :: a2 :: a1 :: va_rf o :: st) h bc bs := by
  subst ho
  obtain ⟨w, fs, q⟩ := xh_is_s hc
  refine xm_use hi ⟨hs, w, fs, mc, ms, q, ⟨h1, h2⟩, ?_⟩
  exact xm_Run.mono hr (fun v h' q => by
    obtain ⟨r, rfl, q⟩ := q
    exact k r h' q) kx
theorem xw_tpr4 {M' : xm_M} {d' mc ms : Nat} {Qf : Option Nat → xm_H → Prop} {a1 a2 a3 a4 : Value} (hi : xm_Imp g Γ pc (xi_spe g M' d' 4 n)) (hs : xm_stk 4 (a4 :: a3 :: a2 :: a1 :: va_rf o :: st) = true) (ho : o = some a) (h1 : mc ≤ bc) (h2 : ms ≤ bs) (hr : xm_Run g M' d' [.ref a, a1, a2, a3, a4] h mc ms (fun v h' => ∃ r, v = some (va_rf r) ∧ Qf r h') xm_no) (k : ∀ r h', Qf r h' → xm_W g Γ n ls (va_rf r :: st) h' (bc - mc) (bs - ms)) : xm_W g Γ pc ls (a4 :: a3 :: a2 :: a1 :: va_rf o :: st) h bc bs := by
  subst ho
  refine xm_use hi ⟨hs, mc, ms, ⟨h1, h2⟩, ?_⟩
  exact xm_Run.mono hr (fun v h' q => by
    obtain ⟨r, rfl, q⟩ := q
    exact k r h' q) (fun E q h' x => x)
theorem xw_tsu4 {M' : xm_M} {d' mc ms : Nat} {Qf : xm_H → Prop} {a1 a2 a3 a4 : Value} (hi : xm_Imp g Γ pc (xi_inv g M' d' 4 n)) (hs : xm_stk 4 (a4 :: a3 :: a2 :: a1 :: st) = true) (h1 : mc ≤ bc) (h2 : ms ≤ bs) (hr : xm_Run g M' d' [a1, a2, a3, a4] h mc ms (fun v h' => v = none ∧ Qf h') xm_no) (k : ∀ h', Qf h' → xm_W g Γ n ls st h' (bc - mc) (bs - ms)) : xm_W g Γ pc ls (a4 :: a3 :: a2 :: a1 :: st) h bc bs := by
  refine xm_use hi ⟨hs, mc, ms, ⟨h1, h2⟩, ?_⟩
  exact xm_Run.mono hr (fun v h' q => by
    obtain ⟨rfl, q⟩ := q
    exact k h' q) (fun E q h' x => x)
theorem xw_tvu4 {ci : Nat} {M' : xm_M} {d' mc ms : Nat} {Qf : xm_H → Prop} {a1 a2 a3 a4 : Value} {u : Unit} (hi : xm_Imp g Γ pc (xi_vir g ci M' d' 4 n)) (hs : xm_stk 4 (a4 :: a3 :: a2 :: a1 :: va_rf o :: st) = true) (ho : o = some a) (hc : xh_is ci h a = some u) (h1 : mc ≤ bc) (h2 : ms ≤ bs) (hr : xm_Run g M' d' [.ref a, a1, a2, a3, a4] h mc ms (fun v h' => v = none ∧ Qf h') xm_no) (k : ∀ h', Qf h' → xm_W g Γ n ls st h' (bc - mc) (bs - ms)) : xm_W g Γ pc ls (a4 :: a3 :: a2 :: a1 :: va_rf o :: st) h bc bs := by
  subst ho
  obtain ⟨w, fs, q⟩ := xh_is_s hc
  refine xm_use hi ⟨hs, w, fs, mc, ms, q, ⟨h1, h2⟩, ?_⟩
  exact xm_Run.mono hr (fun v h' q => by
    obtain ⟨rfl, q⟩ := q
    exact k h' q) (fun E q h' x => x)
theorem xw_tXsu4 {M' : xm_M} {d' mc ms : Nat} {X : xm_X} {Qf : xm_H → Prop} {a1 a2 a3 a4 : Value} (hi : xm_Imp g Γ pc (xi_invX g M' d' 4 n X)) (hs : xm_stk 4 (a4 :: a3 :: a2 :: a1 :: st) = true) (h1 : mc ≤ bc) (h2 : ms ≤ bs) (hr : xm_Run g M' d' [a1, a2, a3, a4] h mc ms (fun v h' => v = none ∧ Qf h') X) (k : ∀ h', Qf h' → xm_W g Γ n ls st h' (bc - mc) (bs - ms)) : xm_W g Γ pc ls (a4 :: a3 :: a2 :: a1 :: st) h bc bs := by
  refine xm_use hi ⟨hs, mc, ms, ⟨h1, h2⟩, ?_⟩
  exact xm_Run.mono hr (fun v h' q => by
    obtain ⟨rfl, q⟩ := q
    exact k h' q) (fun E q h' x => x)
theorem xw_tXvu4 {ci : Nat} {M' : xm_M} {d' mc ms : Nat} {X : xm_X} {Qf : xm_H → Prop} {a1 a2 a3 a4 : Value} {u : Unit} (hi : xm_Imp g Γ pc (xi_virX g ci M' d' 4 n X)) (hs : xm_stk 4 (a4 :: a3 :: a2 :: a1 :: va_rf o :: st) = true) (ho : o = some a) (hc : xh_is ci h a = some u) (h1 : mc ≤ bc) (h2 : ms ≤ bs) (hr : xm_Run g M' d' [.ref a, a1, a2, a3, a4] h mc ms (fun v h' => v = none ∧ Qf h') X) (k : ∀ h', Qf h' → xm_W g Γ n ls st h' (bc - mc) (bs - ms)) : xm_W g Γ pc ls (a4 :: a3 :: a2 :: a1 :: va_rf o :: st) h bc bs := by
  subst ho
  obtain ⟨w, fs, q⟩ := xh_is_s hc
  refine xm_use hi ⟨hs, w, fs, mc, ms, q, ⟨h1, h2⟩, ?_⟩
  exact xm_Run.mono hr (fun v h' q => by
    obtain ⟨rfl, q⟩ := q
    exact k h' q) (fun E q h' x => x)
theorem xw_tHvu4 {ci : Nat} {M' : xm_M} {d' mc ms : Nat} {XH : xm_X} {hs0 : List (String × Nat)} {Qf : xm_H → Prop} {a1 a2 a3 a4 : Value} {u : Unit} (hi : xm_Imp g Γ pc (xi_virH g ci M' d' 4 n hs0)) (hs : xm_stk 4 (a4 :: a3 :: a2 :: a1 :: va_rf o :: st) = true) (ho : o = some a) (hc : xh_is ci h a = some u) (h1 : mc ≤ bc) (h2 : ms ≤ bs) (hr : xm_Run g M' d' [.ref a, a1, a2, a3, a4] h mc ms (fun v h' => v = none ∧ Qf h') XH) (k : ∀ h', Qf h' → xm_W g Γ n ls st h' (bc - mc) (bs - ms)) (kx : ∀ E q h', XH E q h' → xm_hnd hs0 E (fun t => xm_W g Γ t ls [.ref q] h' (bc - mc) (bs - ms))) : xm_W g Γ pc ls (a4 :: a3 :: a2 :: a1 :: va_rf o :: st) h bc bs := by
  subst ho
  obtain ⟨w, fs, q⟩ := xh_is_s hc
  refine xm_use hi ⟨hs, w, fs, mc, ms, q, ⟨h1, h2⟩, ?_⟩
  exact xm_Run.mono hr (fun v h' q => by
    obtain ⟨rfl, q⟩ := q
    exact k h' q) kx
theorem xw_tpu4 {M' : xm_M} {d' mc ms : Nat} {Qf : xm_H → Prop} {a1 a2 a3 a4 : Value} (hi : xm_Imp g Γ pc (xi_spe g M' d' 4 n)) (hs : xm_stk 4 (a4 :: a3 :: a2 :: a1 :: va_rf o :: st) = true) (ho : o = some a) (h1 : mc ≤ bc) (h2 : ms ≤ bs) (hr : xm_Run g M' d' [.ref a, a1, a2, a3, a4] h mc ms (fun v h' => v = none ∧ Qf h') xm_no) (k : ∀ h', Qf h' → xm_W g Γ n ls st h' (bc - mc) (bs - ms)) : xm_W g Γ pc ls (a4 :: a3 :: a2 :: a1 :: va_rf o :: st) h bc bs := by
  subst ho
  refine xm_use hi ⟨hs, mc, ms, ⟨h1, h2⟩, ?_⟩
  exact xm_Run.mono hr (fun v h' q => by
    obtain ⟨rfl, q⟩ := q
    exact k h' q) (fun E q h' x => x)
theorem xw_hv5 {ci : Nat} {M' : xm_M} {d' : Nat} {h' : xm_H} {a1 a2 a3 a4 a5 : Value} {r : Value} {u : Unit} (hi : xm_Imp g Γ pc (xi_vir g ci M' d' 5 n)) (hs : xm_stk 5 (a5 :: a4 :: a3 :: a2 :: a1 :: va_rf o :: st) = true) (ho : o = some a) (hc : xh_is ci h a = some u) (hr : ∀ (Q : xm_P) (X : xm_X), Q (some r) h' → xm_Run g M' d' [.ref a, a1, a2, a3, a4, a5] h 0 0 Q X) (k : xm_W g Γ n ls (r :: st) h' bc bs) : xm_W g Γ pc ls (a5 :: a4 :: a3 :: a2 :: a1 :: va_rf o :: st) h bc bs := by
  subst ho
  obtain ⟨w, fs, q⟩ := xh_is_s hc
  exact xm_use hi ⟨hs, w, fs, 0, 0, q, ⟨Nat.zero_le _, Nat.zero_le _⟩, hr _ _ k⟩
theorem xw_pv5 {M' : xm_M} {d' : Nat} {h' : xm_H} {a1 a2 a3 a4 a5 : Value} {r : Value} (hi : xm_Imp g Γ pc (xi_spe g M' d' 5 n)) (hs : xm_stk 5 (a5 :: a4 :: a3 :: a2 :: a1 :: va_rf o :: st) = true) (ho : o = some a) (hr : ∀ (Q : xm_P) (X : xm_X), Q (some r) h' → xm_Run g M' d' [.ref a, a1, a2, a3, a4, a5] h 0 0 Q X) (k : xm_W g Γ n ls (r :: st) h' bc bs) : xm_W g Γ pc ls (a5 :: a4 :: a3 :: a2 :: a1 :: va_rf o :: st) h bc bs := by
  subst ho
  exact xm_use hi ⟨hs, 0, 0, ⟨Nat.zero_le _, Nat.zero_le _⟩, hr _ _ k⟩
theorem xw_hu5 {ci : Nat} {M' : xm_M} {d' : Nat} {h' : xm_H} {a1 a2 a3 a4 a5 : Value} {u : Unit} (hi : xm_Imp g Γ pc (xi_vir g ci M' d' 5 n)) (hs : xm_stk 5 (a5 :: a4 :: a3 :: a2 :: a1 :: va_rf o :: st) = true) (ho : o = some a) (hc : xh_is ci h a = some u) (hr : ∀ (Q : xm_P) (X : xm_X), Q (none) h' → xm_Run g M' d' [.ref a, a1, a2, a3, a4, a5] h 0 0 Q X) (k : xm_W g Γ n ls (st) h' bc bs) : xm_W g Γ pc ls (a5 :: a4 :: a3 :: a2 :: a1 :: va_rf o :: st) h bc bs := by
  subst ho
  obtain ⟨w, fs, q⟩ := xh_is_s hc
  exact xm_use hi ⟨hs, w, fs, 0, 0, q, ⟨Nat.zero_le _, Nat.zero_le _⟩, hr _ _ k⟩
theorem xw_pu5 {M' : xm_M} {d' : Nat} {h' : xm_H} {a1 a2 a3 a4 a5 : Value} (hi : xm_Imp g Γ pc (xi_spe g M' d' 5 n)) (hs : xm_stk 5 (a5 :: a4 :: a3 :: a2 :: a1 :: va_rf o :: st) = true) (ho : o = some a) (hr : ∀ (Q : xm_P) (X : xm_X), Q (none) h' → xm_Run g M' d' [.ref a, a1, a2, a3, a4, a5] h 0 0 Q X) (k : xm_W g Γ n ls (st) h' bc bs) : xm_W g Γ pc ls (a5 :: a4 :: a3 :: a2 :: a1 :: va_rf o :: st) h bc bs := by
  subst ho
  exact xm_use hi ⟨hs, 0, 0, ⟨Nat.zero_le _, Nat.zero_le _⟩, hr _ _ k⟩
theorem xw_tsi5 {M' : xm_M} {d' mc ms : Nat} {Qf : Int32 → xm_H → Prop} {a1 a2 a3 a4 a5 : Value} (hi : xm_Imp g Γ pc (xi_inv g M' d' 5 n)) (hs : xm_stk 5 (a5 :: a4 :: a3 :: a2 :: a1 :: st) = true) (h1 : mc ≤ bc) (h2 : ms ≤ bs) (hr : xm_Run g M' d' [a1, a2, a3, a4, a5] h mc ms (fun v h' => ∃ r, v = some (.int r) ∧ Qf r h') xm_no) (k : ∀ r h', Qf r h' → xm_W g Γ n ls (.int r :: st) h' (bc - mc) (bs - ms)) : xm_W g Γ pc ls (a5 :: a4 :: a3 :: a2 :: a1 :: st) h bc bs := by
  refine xm_use hi ⟨hs, mc, ms, ⟨h1, h2⟩, ?_⟩
  exact xm_Run.mono hr (fun v h' q => by
    obtain ⟨r, rfl, q⟩ := q
    exact k r h' q) (fun E q h' x => x)
theorem xw_tvi5 {ci : Nat} {M' : xm_M} {d' mc ms : Nat} {Qf : Int32 → xm_H → Prop} {a1 a2 a3 a4 a5 : Value} {u : Unit} (hi : xm_Imp g Γ pc (xi_vir g ci M' d' 5 n)) (hs : xm_stk 5 (a5 :: a4 :: a3 :: a2 :: a1 :: va_rf o :: st) = true) (ho : o = some a) (hc : xh_is ci h a = some u) (h1 : mc ≤ bc) (h2 : ms ≤ bs) (hr : xm_Run g M' d' [.ref a, a1, a2, a3, a4, a5] h mc ms (fun v h' => ∃ r, v = some (.int r) ∧ Qf r h') xm_no) (k : ∀ r h', Qf r h' → xm_W g Γ n ls (.int r :: st) h' (bc - mc) (bs - ms)) : xm_W g Γ pc ls (a5 :: a4 :: a3 :: a2 :: a1 :: va_rf o :: st) h bc bs := by
  subst ho
  obtain ⟨w, fs, q⟩ := xh_is_s hc
  refine xm_use hi ⟨hs, w, fs, mc, ms, q, ⟨h1, h2⟩, ?_⟩
  exact xm_Run.mono hr (fun v h' q => by
    obtain ⟨r, rfl, q⟩ := q
    exact k r h' q) (fun E q h' x => x)
theorem xw_tXsi5 {M' : xm_M} {d' mc ms : Nat} {X : xm_X} {Qf : Int32 → xm_H → Prop} {a1 a2 a3 a4 a5 : Value} (hi : xm_Imp g Γ pc (xi_invX g M' d' 5 n X)) (hs : xm_stk 5 (a5 :: a4 :: a3 :: a2 :: a1 :: st) = true) (h1 : mc ≤ bc) (h2 : ms ≤ bs) (hr : xm_Run g M' d' [a1, a2, a3, a4, a5] h mc ms (fun v h' => ∃ r, v = some (.int r) ∧ Qf r h') X) (k : ∀ r h', Qf r h' → xm_W g Γ n ls (.int r :: st) h' (bc - mc) (bs - ms)) : xm_W g Γ pc ls (a5 :: a4 :: a3 :: a2 :: a1 :: st) h bc bs := by
  refine xm_use hi ⟨hs, mc, ms, ⟨h1, h2⟩, ?_⟩
  exact xm_Run.mono hr (fun v h' q => by
    obtain ⟨r, rfl, q⟩ := q
    exact k r h' q) (fun E q h' x => x)
theorem xw_tXvi5 {ci : Nat} {M' : xm_M} {d' mc ms : Nat} {X : xm_X} {Qf : Int32 → xm_H → Prop} {a1 a2 a3 a4 a5 : Value} {u : Unit} (hi : xm_Imp g Γ pc (xi_virX g ci M' d' 5 n X)) (hs : xm_stk 5 (a5 :: a4 :: a3 :: a2 :: a1 :: va_rf o :: st) = true) (ho : o = some a) (hc : xh_is ci h a = some u) (h1 : mc ≤ bc) (h2 : ms ≤ bs) (hr : xm_Run g M' d' [.ref a, a1, a2, a3, a4, a5] h mc ms (fun v h' => ∃ r, v = some (.int r) ∧ Qf r h') X) (k : ∀ r h', Qf r h' → xm_W g Γ n ls (.int r :: st) h' (bc - mc) (bs - ms)) : xm_W g Γ pc ls (a5 :: a4 :: a3 :: a2 :: a1 :: va_rf o :: st) h bc bs := by
  subst ho
  obtain ⟨w, fs, q⟩ := xh_is_s hc
  refine xm_use hi ⟨hs, w, fs, mc, ms, q, ⟨h1, h2⟩, ?_⟩
  exact xm_Run.mono hr (fun v h' q => by
    obtain ⟨r, rfl, q⟩ := q
    exact k r h' q) (fun E q h' x => x)
theorem xw_tHvi5 {ci : Nat} {M' : xm_M} {d' mc ms : Nat} {XH : xm_X} {hs0 : List (String × Nat)} {Qf : Int32 → xm_H → Prop} {a1 a2 a3 a4 a5 : Value} {u : Unit} (hi : xm_Imp g Γ pc (xi_virH g ci M' d' 5 n hs0)) (hs : xm_stk 5 (a5 :: a4 :: a3 :: a2 :: a1 :: va_rf o :: st) = true) (ho : o = some a) (hc : xh_is ci h a = some u) (h1 : mc ≤ bc) (h2 : ms ≤ bs) (hr : xm_Run g M' d' [.ref a, a1, a2, a3, a4, a5] h mc ms (fun v h' => ∃ r, v = some (.int r) ∧ Qf r h') XH) (k : ∀ r h', Qf r h' → xm_W g Γ n ls (.int r :: st) h' (bc - mc) (bs - ms)) (kx : ∀ E q h', XH E q h' → xm_hnd hs0 E (fun t => xm_W g Γ t ls [.ref q] h' (bc - mc) (bs - ms))) : xm_W g Γ pc ls (a5 :: a4 :: a3 :: a2 :: a1 :: va_rf o :: st) h bc bs := by
  subst ho
  obtain ⟨w, fs, q⟩ := xh_is_s hc
  refine xm_use hi ⟨hs, w, fs, mc, ms, q, ⟨h1, h2⟩, ?_⟩
  exact xm_Run.mono hr (fun v h' q => by
    obtain ⟨r, rfl, q⟩ := q
    exact k r h' q) kx
theorem xw_tpi5 {M' : xm_M} {d' mc ms : Nat} {Qf : Int32 → xm_H → Prop} {a1 a2 a3 a4 a5 : Value} (hi : xm_Imp g Γ pc (xi_spe g M' d' 5 n)) (hs : xm_stk 5 (a5 :: a4 :: a3 :: a2 :: a1 :: va_rf o :: st) = true) (ho : o = some a) (h1 : mc ≤ bc) (h2 : ms ≤ bs) (hr : xm_Run g M' d' [.ref a, a1, a2, a3, a4, a5] h mc ms (fun v h' => ∃ r, v = some (.int r) ∧ Qf r h') xm_no) (k : ∀ r h', Qf r h' → xm_W g Γ n ls (.int r :: st) h' (bc - mc) (bs - ms)) : xm_W g Γ pc ls (a5 :: a4 :: a3 :: a2 :: a1 :: va_rf o :: st) h bc bs := by
  subst ho
  refine xm_use hi ⟨hs, mc, ms, ⟨h1, h2⟩, ?_⟩
  exact xm_Run.mono hr (fun v h' q => by
    obtain ⟨r, rfl, q⟩ := q
    exact k r h' q) (fun E q h' x => x)
theorem xw_tsl5 {M' : xm_M} {d' mc ms : Nat} {Qf : Int64 → xm_H → Prop} {a1 a2 a3 a4 a5 : Value} (hi : xm_Imp g Γ pc (xi_inv g M' d' 5 n)) (hs : xm_stk 5 (a5 :: a4 :: a3 :: a2 :: a1 :: st) = true) (h1 : mc ≤ bc) (h2 : ms ≤ bs) (hr : xm_Run g M' d' [a1, a2, a3, a4, a5] h mc ms (fun v h' => ∃ r, v = some (.long r) ∧ Qf r h') xm_no) (k : ∀ r h', Qf r h' → xm_W g Γ n ls (.long r :: st) h' (bc - mc) (bs - ms)) : xm_W g Γ pc ls (a5 :: a4 :: a3 :: a2 :: a1 :: st) h bc bs := by
  refine xm_use hi ⟨hs, mc, ms, ⟨h1, h2⟩, ?_⟩
  exact xm_Run.mono hr (fun v h' q => by
    obtain ⟨r, rfl, q⟩ := q
    exact k r h' q) (fun E q h' x => x)
theorem xw_tvl5 {ci : Nat} {M' : xm_M} {d' mc ms : Nat} {Qf : Int64 → xm_H → Prop} {a1 a2 a3 a4 a5 : Value} {u : Unit} (hi : xm_Imp g Γ pc (xi_vir g ci M' d' 5 n)) (hs : xm_stk 5 (a5 :: a4 :: a3 :: a2 :: a1 :: va_rf o :: st) = true) (ho : o = some a) (hc : xh_is ci h a = some u) (h1 : mc ≤ bc) (h2 : ms ≤ bs) (hr : xm_Run g M' d' [.ref a, a1, a2, a3, a4, a5] h mc ms (fun v h' => ∃ r, v = some (.long r) ∧ Qf r h') xm_no) (k : ∀ r h', Qf r h' → xm_W g Γ n ls (.long r :: st) h' (bc - mc) (bs - ms)) : xm_W g Γ pc ls (a5 :: a4 :: a3 :: a2 :: a1 :: va_rf o :: st) h bc bs := by
  subst ho
  obtain ⟨w, fs, q⟩ := xh_is_s hc
  refine xm_use hi ⟨hs, w, fs, mc, ms, q, ⟨h1, h2⟩, ?_⟩
  exact xm_Run.mono hr (fun v h' q => by
    obtain ⟨r, rfl, q⟩ := q
    exact k r h' q) (fun E q h' x => x)
theorem xw_tXsl5 {M' : xm_M} {d' mc ms : Nat} {X : xm_X} {Qf : Int64 → xm_H → Prop} {a1 a2 a3 a4 a5 : Value} (hi : xm_Imp g Γ pc (xi_invX g M' d' 5 n X)) (hs : xm_stk 5 (a5 :: a4 :: a3 :: a2 :: a1 :: st) = true) (h1 : mc ≤ bc) (h2 : ms ≤ bs) (hr : xm_Run g M' d' [a1, a2, a3, a4, a5] h mc ms (fun v h' => ∃ r, v = some (.long r) ∧ Qf r h') X) (k : ∀ r h', Qf r h' → xm_W g Γ n ls (.long r :: st) h' (bc - mc) (bs - ms)) : xm_W g Γ pc ls (a5 :: a4 :: a3 :: a2 :: a1 :: st) h bc bs := by
  refine xm_use hi ⟨hs, mc, ms, ⟨h1, h2⟩, ?_⟩
  exact xm_Run.mono hr (fun v h' q => by
    obtain ⟨r, rfl, q⟩ := q
    exact k r h' q) (fun E q h' x => x)
theorem xw_tXvl5 {ci : Nat} {M' : xm_M} {d' mc ms : Nat} {X : xm_X} {Qf : Int64 → xm_H → Prop} {a1 a2 a3 a4 a5 : Value} {u : Unit} (hi : xm_Imp g Γ pc (xi_virX g ci M' d' 5 n X)) (hs : xm_stk 5 (a5 :: a4 :: a3 :: a2 :: a1 :: va_rf o :: st) = true) (ho : o = some a) (hc : xh_is ci h a = some u) (h1 : mc ≤ bc) (h2 : ms ≤ bs) (hr : xm_Run g M' d' [.ref a, a1, a2, a3, a4, a5] h mc ms (fun v h' => ∃ r, v = some (.long r) ∧ Qf r h') X) (k : ∀ r h', Qf r h' → xm_W g Γ n ls (.long r :: st) h' (bc - mc) (bs - ms)) : xm_W g Γ pc ls (a5 :: a4 :: a3 :: a2 :: a1 :: va_rf o :: st) h bc bs := by
  subst ho
  obtain ⟨w, fs, q⟩ := xh_is_s hc
  refine xm_use hi ⟨hs, w, fs, mc, ms, q, ⟨h1, h2⟩, ?_⟩
  exact xm_Run.mono hr (fun v h' q => by
    obtain ⟨r, rfl, q⟩ := q
    exact k r h' q) (fun E q h' x => x)
theorem xw_tHvl5 {ci : Nat} {M' : xm_M} {d' mc ms : Nat} {XH : xm_X} {hs0 : List (String × Nat)} {Qf : Int64 → xm_H → Prop} {a1 a2 a3 a4 a5 : Value} {u : Unit} (hi : xm_Imp g Γ pc (xi_virH g ci M' d' 5 n hs0)) (hs : xm_stk 5 (a5 :: a4 :: a3 :: a2 :: a1 :: va_rf o :: st) = true) (ho : o = some a) (hc : xh_is ci h a = some u) (h1 : mc ≤ bc) (h2 : ms ≤ bs) (hr : xm_Run g M' d' [.ref a, a1, a2, a3, a4, a5] h mc ms (fun v h' => ∃ r, v = some (.long r) ∧ Qf r h') XH) (k : ∀ r h', Qf r h' → xm_W g Γ n ls (.long r :: st) h' (bc - mc) (bs - ms)) (kx : ∀ E q h', XH E q h' → xm_hnd hs0 E (fun t => xm_W g Γ t ls [.ref q] h' (bc - mc) (bs - ms))) : xm_W g Γ pc ls (a5 :: a4 :: a3 :: a2 :: a1 :: va_rf o :: st) h bc bs := by
  subst ho
  obtain ⟨w, fs, q⟩ := xh_is_s hc
  refine xm_use hi ⟨hs, w, fs, mc, ms, q, ⟨h1, h2⟩, ?_⟩
  exact xm_Run.mono hr (fun v h' q => by
    obtain ⟨r, rfl, q⟩ := q
    exact k r h' q) kx
theorem xw_tpl5 {M' : xm_M} {d' mc ms : Nat} {Qf : Int64 → xm_H → Prop} {a1 a2 a3 a4 a5 : Value} (hi : xm_Imp g Γ pc (xi_spe g M' d' 5 n)) (hs : xm_stk 5 (a5 :: a4 :: a3 :: a2 :: a1 :: va_rf o :: st) = true) (ho : o = some a) (h1 : mc ≤ bc) (h2 : ms ≤ bs) (hr : xm_Run g M' d' [.ref a, a1, a2, a3, a4, a5] h mc ms (fun v h' => ∃ r, v = some (.long r) ∧ Qf r h') xm_no) (k : ∀ r h', Qf r h' → xm_W g Γ n ls (.long r :: st) h' (bc - mc) (bs - ms)) : xm_W g Γ pc ls (a5 :: a4 :: a3 :: a2 :: a1 :: va_rf o :: st) h bc bs := by
  subst ho
  refine xm_use hi ⟨hs, mc, ms, ⟨h1, h2⟩, ?_⟩
  exact xm_Run.mono hr (fun v h' q => by
    obtain ⟨r, rfl, q⟩ := q
    exact k r h' q) (fun E q h' x => x)
theorem xw_tsf5 {M' : xm_M} {d' mc ms : Nat} {Qf : UInt32 → xm_H → Prop} {a1 a2 a3 a4 a5 : Value} (hi : xm_Imp g Γ pc (xi_inv g M' d' 5 n)) (hs : xm_stk 5 (a5 :: a4 :: a3 :: a2 :: a1 :: st) = true) (h1 : mc ≤ bc) (h2 : ms ≤ bs) (hr : xm_Run g M' d' [a1, a2, a3, a4, a5] h mc ms (fun v h' => ∃ r, v = some (.float r) ∧ Qf r h') xm_no) (k : ∀ r h', Qf r h' → xm_W g Γ n ls (.float r :: st) h' (bc - mc) (bs - ms)) : xm_W g Γ pc ls (a5 :: a4 :: a3 :: a2 :: a1 :: st) h bc bs := by
  refine xm_use hi ⟨hs, mc, ms, ⟨h1, h2⟩, ?_⟩
  exact xm_Run.mono hr (fun v h' q => by
    obtain ⟨r, rfl, q⟩ := q
    exact k r h' q) (fun E q h' x => x)
theorem xw_tvf5 {ci : Nat} {M' : xm_M} {d' mc ms : Nat} {Qf : UInt32 → xm_H → Prop} {a1 a2 a3 a4 a5 : Value} {u : Unit} (hi : xm_Imp g Γ pc (xi_vir g ci M' d' 5 n)) (hs : xm_stk 5 (a5 :: a4 :: a3 :: a2 :: a1 :: va_rf o :: st) = true) (ho : o = some a) (hc : xh_is ci h a = some u) (h1 : mc ≤ bc) (h2 : ms ≤ bs) (hr : xm_Run g M' d' [.ref a, a1, a2, a3, a4, a5] h mc ms (fun v h' => ∃ r, v = some (.float r) ∧ Qf r h') xm_no) (k : ∀ r h', Qf r h' → xm_W g Γ n ls (.float r :: st) h' (bc - mc) (bs - ms)) : xm_W g Γ pc ls (a5 :: a4 :: a3 :: a2 :: a1 :: va_rf o :: st) h bc bs := by
  subst ho
  obtain ⟨w, fs, q⟩ := xh_is_s hc
  refine xm_use hi ⟨hs, w, fs, mc, ms, q, ⟨h1, h2⟩, ?_⟩
  exact xm_Run.mono hr (fun v h' q => by
    obtain ⟨r, rfl, q⟩ := q
    exact k r h' q) (fun E q h' x => x)
theorem xw_tXsf5 {M' : xm_M} {d' mc ms : Nat} {X : xm_X} {Qf : UInt32 → xm_H → Prop} {a1 a2 a3 a4 a5 : Value} (hi : xm_Imp g Γ pc (xi_invX g M' d' 5 n X)) (hs : xm_stk 5 (a5 :: a4 :: a3 :: a2 :: a1 :: st) = true) (h1 : mc ≤ bc) (h2 : ms ≤ bs) (hr : xm_Run g M' d' [a1, a2, a3, a4, a5] h mc ms (fun v h' => ∃ r, v = some (.float r) ∧ Qf r h') X) (k : ∀ r h', Qf r h' → xm_W g Γ n ls (.float r :: st) h' (bc - mc) (bs - ms)) : xm_W g Γ pc ls (a5 :: a4 :: a3 :: a2 :: a1 :: st) h bc bs := by
  refine xm_use hi ⟨hs, mc, ms, ⟨h1, h2⟩, ?_⟩
  exact xm_Run.mono hr (fun v h' q => by
    obtain ⟨r, rfl, q⟩ := q
    exact k r h' q) (fun E q h' x => x)
theorem xw_tXvf5 {ci : Nat} {M' : xm_M} {d' mc ms : Nat} {X : xm_X} {Qf : UInt32 → xm_H → Prop} {a1 a2 a3 a4 a5 : Value} {u : Unit} (hi : xm_Imp g Γ pc (xi_virX g ci M' d' 5 n X)) (hs : xm_stk 5 (a5 :: a4 :: a3 :: a2 :: a1 :: va_rf o :: st) = true) (ho : o = some a) (hc : xh_is ci h a = some u) (h1 : mc ≤ bc) (h2 : ms ≤ bs) (hr : xm_Run g M' d' [.ref a, a1, a2, a3, a4, a5] h mc ms (fun v h' => ∃ r, v = some (.float r) ∧ Qf r h') X) (k : ∀ r h', Qf r h' → xm_W g Γ n ls (.float r :: st) h' (bc - mc) (bs - ms)) : xm_W g Γ pc ls (a5 :: a4 :: a3 :: a2 :: a1 :: va_rf o :: st) h bc bs := by
  subst ho
  obtain ⟨w, fs, q⟩ := xh_is_s hc
  refine xm_use hi ⟨hs, w, fs, mc, ms, q, ⟨h1, h2⟩, ?_⟩
  exact xm_Run.mono hr (fun v h' q => by
    obtain ⟨r, rfl, q⟩ := q
    exact k r h' q) (fun E q h' x => x)
theorem xw_tHvf5 {ci : Nat} {M' : xm_M} {d' mc ms : Nat} {XH : xm_X} {hs0 : List (String × Nat)} {Qf : UInt32 → xm_H → Prop} {a1 a2 a3 a4 a5 : Value} {u : Unit} (hi : xm_Imp g Γ pc (xi_virH g ci M' d' 5 n hs0)) (hs : xm_stk 5 (a5 :: a4 :: a3 :: a2 :: a1 :: va_rf o :: st) = true) (ho : o = some a) (hc : xh_is ci h a = some u) (h1 : mc ≤ bc) (h2 : ms ≤ bs) (hr : xm_Run g M' d' [.ref a, a1, a2, a3, a4, a5] h mc ms (fun v h' => ∃ r, v = some (.float r) ∧ Qf r h') XH) (k : ∀ r h', Qf r h' → xm_W g Γ n ls (.float r :: st) h' (bc - mc) (bs - ms)) (kx : ∀ E q h', XH E q h' → xm_hnd hs0 E (fun t => xm_W g Γ t ls [.ref q] h' (bc - mc) (bs - ms))) : xm_W g Γ pc ls (a5 :: a4 :: a3 :: a2 :: a1 :: va_rf o :: st) h bc bs := by
  subst ho
  obtain ⟨w, fs, q⟩ := xh_is_s hc
  refine xm_use hi ⟨hs, w, fs, mc, ms, q, ⟨h1, h2⟩, ?_⟩
  exact xm_Run.mono hr (fun v h' q => by
    obtain ⟨r, rfl, q⟩ := q
    exact k r h' q) kx
theorem xw_tpf5 {M' : xm_M} {d' mc ms : Nat} {Qf : UInt32 → xm_H → Prop} {a1 a2 a3 a4 a5 : Value} (hi : xm_Imp g Γ pc (xi_spe g M' d' 5 n)) (hs : xm_stk 5 (a5 :: a4 :: a3 :: a2 :: a1 :: va_rf o :: st) = true) (ho : o = some a) (h1 : mc ≤ bc) (h2 : ms ≤ bs) (hr : xm_Run g M' d' [.ref a, a1, a2, a3, a4, a5] h mc ms (fun v h' => ∃ r, v = some (.float r) ∧ Qf r h') xm_no) (k : ∀ r h', Qf r h' → xm_W g Γ n ls (.float r :: st) h' (bc - mc) (bs - ms)) : xm_W g Γ pc ls (a5 :: a4 :: a3 :: a2 :: a1 :: va_rf o :: st) h bc bs := by
  subst ho
  refine xm_use hi ⟨hs, mc, ms, ⟨h1, h2⟩, ?_⟩
  exact xm_Run.mono hr (fun v h' q => by
    obtain ⟨r, rfl, q⟩ := q
    exact k r h' q) (fun E q h' x => x)
theorem xw_tsd5 {M' : xm_M} {d' mc ms : Nat} {Qf : UInt64 → xm_H → Prop} {a1 a2 a3 a4 a5 : Value} (hi : xm_Imp g Γ pc (xi_inv g M' d' 5 n)) (hs : xm_stk 5 (a5 :: a4 :: a3 :: a2 :: a1 :: st) = true) (h1 : mc ≤ bc) (h2 : ms ≤ bs) (hr : xm_Run g M' d' [a1, a2, a3, a4, a5] h mc ms (fun v h' => ∃ r, v = some (.double r) ∧ Qf r h') xm_no) (k : ∀ r h', Qf r h' → xm_W g Γ n ls (.double r :: st) h' (bc - mc) (bs - ms)) : xm_W g Γ pc ls (a5 :: a4 :: a3 :: a2 :: a1 :: st) h bc bs := by
  refine xm_use hi ⟨hs, mc, ms, ⟨h1, h2⟩, ?_⟩
  exact xm_Run.mono hr (fun v h' q => by
    obtain ⟨r, rfl, q⟩ := q
    exact k r h' q) (fun E q h' x => x)
theorem xw_tvd5 {ci : Nat} {M' : xm_M} {d' mc ms : Nat} {Qf : UInt64 → xm_H → Prop} {a1 a2 a3 a4 a5 : Value} {u : Unit} (hi : xm_Imp g Γ pc (xi_vir g ci M' d' 5 n)) (hs : xm_stk 5 (a5 :: a4 :: a3 :: a2 :: a1 :: va_rf o :: st) = true) (ho : o = some a) (hc : xh_is ci h a = some u) (h1 : mc ≤ bc) (h2 : ms ≤ bs) (hr : xm_Run g M' d' [.ref a, a1, a2, a3, a4, a5] h mc ms (fun v h' => ∃ r, v = some (.double r) ∧ Qf r h') xm_no) (k : ∀ r h', Qf r h' → xm_W g Γ n ls (.double r :: st) h' (bc - mc) (bs - ms)) : xm_W g Γ pc ls (a5 :: a4 :: a3 :: a2 :: a1 :: va_rf o :: st) h bc bs := by
  subst ho
  obtain ⟨w, fs, q⟩ := xh_is_s hc
  refine xm_use hi ⟨hs, w, fs, mc, ms, q, ⟨h1, h2⟩, ?_⟩
  exact xm_Run.mono hr (fun v h' q => by
    obtain ⟨r, rfl, q⟩ := q
    exact k r h' q) (fun E q h' x => x)
theorem xw_tXsd5 {M' : xm_M} {d' mc ms : Nat} {X : xm_X} {Qf : UInt64 → xm_H → Prop} {a1 a2 a3 a4 a5 : Value} (hi : xm_Imp g Γ pc (xi_invX g M' d' 5 n X)) (hs : xm_stk 5 (a5 :: a4 :: a3 :: a2 :: a1 :: st) = true) (h1 : mc ≤ bc) (h2 : ms ≤ bs) (hr : xm_Run g M' d' [a1, a2, a3, a4, a5] h mc ms (fun v h' => ∃ r, v = some (.double r) ∧ Qf r h') X) (k : ∀ r h', Qf r h' → xm_W g Γ n ls (.double r :: st) h' (bc - mc) (bs - ms)) : xm_W g Γ pc ls (a5 :: a4 :: a3 :: a2 :: a1 :: st) h bc bs := by
  refine xm_use hi ⟨hs, mc, ms, ⟨h1, h2⟩, ?_⟩
  exact xm_Run.mono hr (fun v h' q => by
    obtain ⟨r, rfl, q⟩ := q
    exact k r h' q) (fun E q h' x => x)
theorem xw_tXvd5 {ci : Nat} {M' : xm_M} {d' mc ms : Nat} {X : xm_X} {Qf : UInt64 → xm_H → Prop} {a1 a2 a3 a4 a5 : Value} {u : Unit} (hi : xm_Imp g Γ pc (xi_virX g ci M' d' 5 n X)) (hs : xm_stk 5 (a5 :: a4 :: a3 :: a2 :: a1 :: va_rf o :: st) = true) (ho : o = some a) (hc : xh_is ci h a = some u) (h1 : mc ≤ bc) (h2 : ms ≤ bs) (hr : xm_Run g M' d' [.ref a, a1, a2, a3, a4, a5] h mc ms (fun v h' => ∃ r, v = some (.double r) ∧ Qf r h') X) (k : ∀ r h', Qf r h' → xm_W g Γ n ls (.double r :: st) h' (bc - mc) (bs - ms)) : xm_W g Γ pc ls (a5 :: a4 :: a3 :: a2 :: a1 :: va_rf o :: st) h bc bs := by
  subst ho
  obtain ⟨w, fs, q⟩ := xh_is_s hc
  refine xm_use hi ⟨hs, w, fs, mc, ms, q, ⟨h1, h2⟩, ?_⟩
  exact xm_Run.mono hr (fun v h' q => by
    obtain ⟨r, rfl, q⟩ := q
    exact k r h' q) (fun E q h' x => x)
theorem xw_tHvd5 {ci : Nat} {M' : xm_M} {d' mc ms : Nat} {XH : xm_X} {hs0 : List (String × Nat)} {Qf : UInt64 → xm_H → Prop} {a1 a2 a3 a4 a5 : Value} {u : Unit} (hi : xm_Imp g Γ pc (xi_virH g ci M' d' 5 n hs0)) (hs : xm_stk 5 (a5 :: a4 :: a3 :: a2 :: a1 :: va_rf o :: st) = true) (ho : o = some a) (hc : xh_is ci h a = some u) (h1 : mc ≤ bc) (h2 : ms ≤ bs) (hr : xm_Run g M' d' [.ref a, a1, a2, a3, a4, a5] h mc ms (fun v h' => ∃ r, v = some (.double r) ∧ Qf r h') XH) (k : ∀ r h', Qf r h' → xm_W g Γ n ls (.double r :: st) h' (bc - mc) (bs - ms)) (kx : ∀ E q h', XH E q h' → xm_hnd hs0 E (fun t => xm_W g Γ t ls [.ref q] h' (bc - mc) (bs - ms))) : xm_W g Γ pc ls (a5 :: a4 :: a3 :: a2 :: a1 :: va_rf o :: st) h bc bs := by
  subst ho
  obtain ⟨w, fs, q⟩ := xh_is_s hc
  refine xm_use hi ⟨hs, w, fs, mc, ms, q, ⟨h1, h2⟩, ?_⟩
  exact xm_Run.mono hr (fun v h' q => by
    obtain ⟨r, rfl, q⟩ := q
    exact k r h' q) kx
theorem xw_tpd5 {M' : xm_M} {d' mc ms : Nat} {Qf : UInt64 → xm_H → Prop} {a1 a2 a3 a4 a5 : Value} (hi : xm_Imp g Γ pc (xi_spe g M' d' 5 n)) (hs : xm_stk 5 (a5 :: a4 :: a3 :: a2 :: a1 :: va_rf o :: st) = true) (ho : o = some a) (h1 : mc ≤ bc) (h2 : ms ≤ bs) (hr : xm_Run g M' d' [.ref a, a1, a2, a3, a4, a5] h mc ms (fun v h' => ∃ r, v = some (.double r) ∧ Qf r h') xm_no) (k : ∀ r h', Qf r h' → xm_W g Γ n ls (.double r :: st) h' (bc - mc) (bs - ms)) : xm_W g Γ pc ls (a5 :: a4 :: a3 :: a2 :: a1 :: va_rf o :: st) h bc bs := by
  subst ho
  refine xm_use hi ⟨hs, mc, ms, ⟨h1, h2⟩, ?_⟩
  exact xm_Run.mono hr (fun v h' q => by
    obtain ⟨r, rfl, q⟩ := q
    exact k r h' q) (fun E q h' x => x)
theorem xw_tsr5 {M' : xm_M} {d' mc ms : Nat} {Qf : Option Nat → xm_H → Prop} {a1 a2 a3 a4 a5 : Value} (hi : xm_Imp g Γ pc (xi_inv g M' d' 5 n)) (hs : xm_stk 5 (a5 :: a4 :: a3 :: a2 :: a1 :: st) = true) (h1 : mc ≤ bc) (h2 : ms ≤ bs) (hr : xm_Run g M' d' [a1, a2, a3, a4, a5] h mc ms (fun v h' => ∃ r, v = some (va_rf r) ∧ Qf r h') xm_no) (k : ∀ r h', Qf r h' → xm_W g Γ n ls (va_rf r :: st) h' (bc - mc) (bs - ms)) : xm_W g Γ pc ls (a5 :: a4 :: a3 :: a2 :: a1 :: st) h bc bs := by
  refine xm_use hi ⟨hs, mc, ms, ⟨h1, h2⟩, ?_⟩
  exact xm_Run.mono hr (fun v h' q => by
    obtain ⟨r, rfl, q⟩ := q
    exact k r h' q) (fun E q h' x => x)
theorem xw_tvr5 {ci : Nat} {M' : xm_M} {d' mc ms : Nat} {Qf : Option Nat → xm_H → Prop} {a1 a2 a3 a4 a5 : Value} {u : Unit} (hi : xm_Imp g Γ pc (xi_vir g ci M' d' 5 n)) (hs : xm_stk 5 (a5 :: a4 :: a3 :: a2 :: a1 :: va_rf o :: st) = true) (ho : o = some a) (hc : xh_is ci h a = some u) (h1 : mc ≤ bc) (h2 : ms ≤ bs) (hr : xm_Run g M' d' [.ref a, a1, a2, a3, a4, a5] h mc ms (fun v h' => ∃ r, v = some (va_rf r) ∧ Qf r h') xm_no) (k : ∀ r h', Qf r h' → xm_W g Γ n ls (va_rf r :: st) h' (bc - mc) (bs - ms)) : xm_W g Γ pc ls (a5 :: a4 :: a3 :: a2 :: a1 :: va_rf o :: st) h bc bs := by
  subst ho
  obtain ⟨w, fs, q⟩ := xh_is_s hc
  refine xm_use hi ⟨hs, w, fs, mc, ms, q, ⟨h1, h2⟩, ?_⟩
  exact xm_Run.mono hr (fun v h' q => by
    obtain ⟨r, rfl, q⟩ := q
    exact k r h' q) (fun E q h' x => x)
theorem xw_tXsr5 {M' : xm_M} {d' mc ms : Nat} {X : xm_X} {Qf : Option Nat → xm_H → Prop} {a1 a2 a3 a4 a5 : Value} (hi : xm_Imp g Γ pc (xi_invX g M' d' 5 n X)) (hs : xm_stk 5 (a5 :: a4 :: a3 :: a2 :: a1 :: st) = true) (h1 : mc ≤ bc) (h2 : ms ≤ bs) (hr : xm_Run g M' d' [a1, a2, a3, a4, a5] h mc ms (fun v h' => ∃ r, v = some (va_rf r) ∧ Qf r h') X) (k : ∀ r h', Qf r h' → xm_W g Γ n ls (va_rf r :: st) h' (bc - mc) (bs - ms)) : xm_W g Γ pc ls (a5 :: a4 :: a3 :: a2 :: a1 :: st) h bc bs := by
  refine xm_use hi ⟨hs, mc, ms, ⟨h1, h2⟩, ?_⟩
  exact xm_Run.mono hr (fun v h' q => by
    obtain ⟨r, rfl, q⟩ := q
    exact k r h' q) (fun E q h' x => x)
theorem xw_tXvr5 {ci : Nat} {M' : xm_M} {d' mc ms : Nat} {X : xm_X} {Qf : Option Nat → xm_H → Prop} {a1 a2 a3 a4 a5 : Value} {u : Unit} (hi : xm_Imp g Γ pc (xi_virX g ci M' d' 5 n X)) (hs : xm_stk 5 (a5 :: a4 :: a3 :: a2 :: a1 :: va_rf o :: st) = true) (ho : o = some a) (hc : xh_is ci h a = some u) (h1 : mc ≤ bc) (h2 : ms ≤ bs) (hr : xm_Run g M' d' [.ref a, a1, a2, a3, a4, a5] h mc ms (fun v h' => ∃ r, v = some (va_rf r) ∧ Qf r h') X) (k : ∀ r h', Qf r h' → xm_W g Γ n ls (va_rf r :: st) h' (bc - mc) (bs - ms)) : xm_W g Γ pc ls (a5 :: a4 :: a3 :: a2 :: a1 :: va_rf o :: st) h bc bs := by
  subst ho
  obtain ⟨w, fs, q⟩ := xh_is_s hc
  refine xm_use hi ⟨hs, w, fs, mc, ms, q, ⟨h1, h2⟩, ?_⟩
  exact xm_Run.mono hr (fun v h' q => by
    obtain ⟨r, rfl, q⟩ := q
    exact k r h' q) (fun E q h' x => x)
theorem xw_tHvr5 {ci : Nat} {M' : xm_M} {d' mc ms : Nat} {XH : xm_X} {hs0 : List (String × Nat)} {Qf : Option Nat → xm_H → Prop} {a1 a2 a3 a4 a5 : Value} {u : Unit} (hi : xm_Imp g Γ pc (xi_virH g ci M' d' 5 n hs0)) (hs : xm_stk 5 (a5 :: a4 :: a3 :: a2 :: a1 :: va_rf o :: st) = true) (ho : o = some a) (hc : xh_is ci h a = some u) (h1 : mc ≤ bc) (h2 : ms ≤ bs) (hr : xm_Run g M' d' [.ref a, a1, a2, a3, a4, a5] h mc ms (fun v h' => ∃ r, v = some (va_rf r) ∧ Qf r h') XH) (k : ∀ r h', Qf r h' → xm_W g Γ n ls (va_rf r :: st) h' (bc - mc) (bs - ms)) (kx : ∀ E q h', XH E q h' → xm_hnd hs0 E (fun t => xm_W g Γ t ls [.ref q] h' (bc - mc) (bs - ms))) : xm_W g Γ pc ls (a5 :: a4 :: a3 :: a2 :: a1 :: va_rf o :: st) h bc bs := by
  subst ho
  obtain ⟨w, fs, q⟩ := xh_is_s hc
  refine xm_use hi ⟨hs, w, fs, mc, ms, q, ⟨h1, h2⟩, ?_⟩
  exact xm_Run.mono hr (fun v h' q => by
    obtain ⟨r, rfl, q⟩ := q
    exact k r h' q) kx
theorem xw_tpr5 {M' : xm_M} {d' mc ms : Nat} {Qf : Option Nat → xm_H → Prop} {a1 a2 a3 a4 a5 : Value} (hi : xm_Imp g Γ pc (xi_spe g M' d' 5 n)) (hs : xm_stk 5 (a5 :: a4 :: a3 :: a2 :: a1 :: va_rf o :: st) = true) (ho : o = some a) (h1 : mc ≤ bc) (h2 : ms ≤ bs) (hr : xm_Run g M' d' [.ref a, a1, a2, a3, a4, a5] h mc ms (fun v h' => ∃ r, v = some (va_rf r) ∧ Qf r h') xm_no) (k : ∀ r h', Qf r h' → xm_W g Γ n ls (va_rf r :: st) h' (bc - mc) (bs - ms)) : xm_W g Γ pc ls (a5 :: a4 :: a3 :: a2 :: a1 :: va_rf o :: st) h bc bs := by
  subst ho
  refine xm_use hi ⟨hs, mc, ms, ⟨h1, h2⟩, ?_⟩
  exact xm_Run.mono hr (fun v h' q => by
    obtain ⟨r, rfl, q⟩ := q
    exact k r h' q) (fun E q h' x => x)
theorem xw_tsu5 {M' : xm_M} {d' mc ms : Nat} {Qf : xm_H → Prop} {a1 a2 a3 a4 a5 : Value} (hi : xm_Imp g Γ pc (xi_inv g M' d' 5 n)) (hs : xm_stk 5 (a5 :: a4 :: a3 :: a2 :: a1 :: st) = true) (h1 : mc ≤ bc) (h2 : ms ≤ bs) (hr : xm_Run g M' d' [a1, a2, a3, a4, a5] h mc ms (fun v h' => v = none ∧ Qf h') xm_no) (k : ∀ h', Qf h' → xm_W g Γ n ls st h' (bc - mc) (bs - ms)) : xm_W g Γ pc ls (a5 :: a4 :: a3 :: a2 :: a1 :: st) h bc bs := by
  refine xm_use hi ⟨hs, mc, ms, ⟨h1, h2⟩, ?_⟩
  exact xm_Run.mono hr (fun v h' q => by
    obtain ⟨rfl, q⟩ := q
    exact k h' q) (fun E q h' x => x)
theorem xw_tvu5 {ci : Nat} {M' : xm_M} {d' mc ms : Nat} {Qf : xm_H → Prop} {a1 a2 a3 a4 a5 : Value} {u : Unit} (hi : xm_Imp g Γ pc (xi_vir g ci M' d' 5 n)) (hs : xm_stk 5 (a5 :: a4 :: a3 :: a2 :: a1 :: va_rf o :: st) = true) (ho : o = some a) (hc : xh_is ci h a = some u) (h1 : mc ≤ bc) (h2 : ms ≤ bs) (hr : xm_Run g M' d' [.ref a, a1, a2, a3, a4, a5] h mc ms (fun v h' => v = none ∧ Qf h') xm_no) (k : ∀ h', Qf h' → xm_W g Γ n ls st h' (bc - mc) (bs - ms)) : xm_W g Γ pc ls (a5 :: a4 :: a3 :: a2 :: a1 :: va_rf o :: st) h bc bs := by
  subst ho
  obtain ⟨w, fs, q⟩ := xh_is_s hc
  refine xm_use hi ⟨hs, w, fs, mc, ms, q, ⟨h1, h2⟩, ?_⟩
  exact xm_Run.mono hr (fun v h' q => by
    obtain ⟨rfl, q⟩ := q
    exact k h' q) (fun E q h' x => x)
theorem xw_tXsu5 {M' : xm_M} {d' mc ms : Nat} {X : xm_X} {Qf : xm_H → Prop} {a1 a2 a3 a4 a5 : Value} (hi : xm_Imp g Γ pc (xi_invX g M' d' 5 n X)) (hs : xm_stk 5 (a5 :: a4 :: a3 :: a2 :: a1 :: st) = true) (h1 : mc ≤ bc) (h2 : ms ≤ bs) (hr : xm_Run g M' d' [a1, a2, a3, a4, a5] h mc ms (fun v h' => v = none ∧ Qf h') X) (k : ∀ h', Qf h' → xm_W g Γ n ls st h' (bc - mc) (bs - ms)) : xm_W g Γ pc ls (a5 :: a4 :: a3 :: a2 :: a1 :: st) h bc bs := by
  refine xm_use hi ⟨hs, mc, ms, ⟨h1, h2⟩, ?_⟩
  exact xm_Run.mono hr (fun v h' q => by
    obtain ⟨rfl, q⟩ := q
    exact k h' q) (fun E q h' x => x)
theorem xw_tXvu5 {ci : Nat} {M' : xm_M} {d' mc ms : Nat} {X : xm_X} {Qf : xm_H → Prop} {a1 a2 a3 a4 a5 : Value} {u : Unit} (hi : xm_Imp g Γ pc (xi_virX g ci M' d' 5 n X)) (hs : xm_stk 5 (a5 :: a4 :: a3 :: a2 :: a1 :: va_rf o :: st) = true) (ho : o = some a) (hc : xh_is ci h a = some u) (h1 : mc ≤ bc) (h2 : ms ≤ bs) (hr : xm_Run g M' d' [.ref a, a1, a2, a3, a4, a5] h mc ms (fun v h' => v = none ∧ Qf h') X) (k : ∀ h', Qf h' → xm_W g Γ n ls st h' (bc - mc) (bs - ms)) : xm_W g Γ pc ls (a5 :: a4 :: a3 :: a2 :: a1 :: va_rf o :: st) h bc bs := by
  subst ho
  obtain ⟨w, fs, q⟩ := xh_is_s hc
  refine xm_use hi ⟨hs, w, fs, mc, ms, q, ⟨h1, h2⟩, ?_⟩
  exact xm_Run.mono hr (fun v h' q => by
    obtain ⟨rfl, q⟩ := q
    exact k h' q) (fun E q h' x => x)
theorem xw_tHvu5 {ci : Nat} {M' : xm_M} {d' mc ms : Nat} {XH : xm_X} {hs0 : List (String × Nat)} {Qf : xm_H → Prop} {a1 a2 a3 a4 a5 : Value} {u : Unit} (hi : xm_Imp g Γ pc (xi_virH g ci M' d' 5 n hs0)) (hs : xm_stk 5 (a5 :: a4 :: a3 :: a2 :: a1 :: va_rf o :: st) = true) (ho : o = some a) (hc : xh_is ci h a = some u) (h1 : mc ≤ bc) (h2 : ms ≤ bs) (hr : xm_Run g M' d' [.ref a, a1, a2, a3, a4, a5] h mc ms (fun v h' => v = none ∧ Qf h') XH) (k : ∀ h', Qf h' → xm_W g Γ n ls st h' (bc - mc) (bs - ms)) (kx : ∀ E q h', XH E q h' → xm_hnd hs0 E (fun t => xm_W g Γ t ls [.ref q] h' (bc - mc) (bs - ms))) : xm_W g Γ pc ls (a5 :: a4 :: a3 :: a2 :: a1 :: va_rf o :: st) h bc bs := by
  subst ho
  obtain ⟨w, fs, q⟩ := xh_is_s hc
  refine xm_use hi ⟨hs, w, fs, mc, ms, q, ⟨h1, h2⟩, ?_⟩
  exact xm_Run.mono hr (fun v h' q => by
    obtain ⟨rfl, q⟩ := q
    exact k h' q) kx
theorem xw_tpu5 {M' : xm_M} {d' mc ms : Nat} {Qf : xm_H → Prop} {a1 a2 a3 a4 a5 : Value} (hi : xm_Imp g Γ pc (xi_spe g M' d' 5 n)) (hs : xm_stk 5 (a5 :: a4 :: a3 :: a2 :: a1 :: va_rf o :: st) = true) (ho : o = some a) (h1 : mc ≤ bc) (h2 : ms ≤ bs) (hr : xm_Run g M' d' [.ref a, a1, a2, a3, a4, a5] h mc ms (fun v h' => v = none ∧ Qf h') xm_no) (k : ∀ h', Qf h' → xm_W g Γ n ls st h' (bc - mc) (bs - ms)) : xm_W g Γ pc ls (a5 :: a4 :: a3 :: a2 :: a1 :: va_rf o :: st) h bc bs := by
  subst ho
  refine xm_use hi ⟨hs, mc, ms, ⟨h1, h2⟩, ?_⟩
  exact xm_Run.mono hr (fun v h' q => by
    obtain ⟨rfl, q⟩ := q
    exact k h' q) (fun E q h' x => x)
theorem xw_hv6 {ci : Nat} {M' : xm_M} {d' : Nat} {h' : xm_H} {a1 a2 a3 a4 a5 a6 : Value} {r : Value} {u : Unit} (hi : xm_Imp g Γ pc (xi_vir g ci M' d' 6 n)) (hs : xm_stk 6 (a6 :: a5 :: a4 :: a3 :: a2 :: a1 :: va_rf o :: st) = true) (ho : o = some a) (hc : xh_is ci h a = some u) (hr : ∀ (Q : xm_P) (X : xm_X), Q (some r) h' → xm_Run g M' d' [.ref a, a1, a2, a3, a4, a5, a6] h 0 0 Q X) (k : xm_W g Γ n ls (r :: st) h' bc bs) : xm_W g Γ pc ls (a6 :: a5 :: a4 :: a3 :: a2 :: a1 :: va_rf o :: st) h bc bs := by
  subst ho
  obtain ⟨w, fs, q⟩ := xh_is_s hc
  exact xm_use hi ⟨hs, w, fs, 0, 0, q, ⟨Nat.zero_le _, Nat.zero_le _⟩, hr _ _ k⟩
theorem xw_pv6 {M' : xm_M} {d' : Nat} {h' : xm_H} {a1 a2 a3 a4 a5 a6 : Value} {r : Value} (hi : xm_Imp g Γ pc (xi_spe g M' d' 6 n)) (hs : xm_stk 6 (a6 :: a5 :: a4 :: a3 :: a2 :: a1 :: va_rf o :: st) = true) (ho : o = some a) (hr : ∀ (Q : xm_P) (X : xm_X), Q (some r) h' → xm_Run g M' d' [.ref a, a1, a2, a3, a4, a5, a6] h 0 0 Q X) (k : xm_W g Γ n ls (r :: st) h' bc bs) : xm_W g Γ pc ls (a6 :: a5 :: a4 :: a3 :: a2 :: a1 :: va_rf o :: st) h bc bs := by
  subst ho
  exact xm_use hi ⟨hs, 0, 0, ⟨Nat.zero_le _, Nat.zero_le _⟩, hr _ _ k⟩
theorem xw_hu6 {ci : Nat} {M' : xm_M} {d' : Nat} {h' : xm_H} {a1 a2 a3 a4 a5 a6 : Value} {u : Unit} (hi : xm_Imp g Γ pc (xi_vir g ci M' d' 6 n)) (hs : xm_stk 6 (a6 :: a5 :: a4 :: a3 :: a2 :: a1 :: va_rf o :: st) = true) (ho : o = some a) (hc : xh_is ci h a = some u) (hr : ∀ (Q : xm_P) (X : xm_X), Q (none) h' → xm_Run g M' d' [.ref a, a1, a2, a3, a4, a5, a6] h 0 0 Q X) (k : xm_W g Γ n ls (st) h' bc bs) : xm_W g Γ pc ls (a6 :: a5 :: a4 :: a3 :: a2 :: a1 :: va_rf o :: st) h bc bs := by
  subst ho
  obtain ⟨w, fs, q⟩ := xh_is_s hc
  exact xm_use hi ⟨hs, w, fs, 0, 0, q, ⟨Nat.zero_le _, Nat.zero_le _⟩, hr _ _ k⟩
theorem xw_pu6 {M' : xm_M} {d' : Nat} {h' : xm_H} {a1 a2 a3 a4 a5 a6 : Value} (hi : xm_Imp g Γ pc (xi_spe g M' d' 6 n)) (hs : xm_stk 6 (a6 :: a5 :: a4 :: a3 :: a2 :: a1 :: va_rf o :: st) = true) (ho : o = some a) (hr : ∀ (Q : xm_P) (X : xm_X), Q (none) h' → xm_Run g M' d' [.ref a, a1, a2, a3, a4, a5, a6] h 0 0 Q X) (k : xm_W g Γ n ls (st) h' bc bs) : xm_W g Γ pc ls (a6 :: a5 :: a4 :: a3 :: a2 :: a1 :: va_rf o :: st) h bc bs := by
  subst ho
  exact xm_use hi ⟨hs, 0, 0, ⟨Nat.zero_le _, Nat.zero_le _⟩, hr _ _ k⟩
theorem xw_tsi6 {M' : xm_M} {d' mc ms : Nat} {Qf : Int32 → xm_H → Prop} {a1 a2 a3 a4 a5 a6 : Value} (hi : xm_Imp g Γ pc (xi_inv g M' d' 6 n)) (hs : xm_stk 6 (a6 :: a5 :: a4 :: a3 :: a2 :: a1 :: st) = true) (h1 : mc ≤ bc) (h2 : ms ≤ bs) (hr : xm_Run g M' d' [a1, a2, a3, a4, a5, a6] h mc ms (fun v h' => ∃ r, v = some (.int r) ∧ Qf r h') xm_no) (k : ∀ r h', Qf r h' → xm_W g Γ n ls (.int r :: st) h' (bc - mc) (bs - ms)) : xm_W g Γ pc ls (a6 :: a5 :: a4 :: a3 :: a2 :: a1 :: st) h bc bs := by
  refine xm_use hi ⟨hs, mc, ms, ⟨h1, h2⟩, ?_⟩
  exact xm_Run.mono hr (fun v h' q => by
    obtain ⟨r, rfl, q⟩ := q
    exact k r h' q) (fun E q h' x => x)
theorem xw_tvi6 {ci : Nat} {M' : xm_M} {d' mc ms : Nat} {Qf : Int32 → xm_H → Prop} {a1 a2 a3 a4 a5 a6 : Value} {u : Unit} (hi : xm_Imp g Γ pc (xi_vir g ci M' d' 6 n)) (hs : xm_stk 6 (a6 :: a5 :: a4 :: a3 :: a2 :: a1 :: va_rf o :: st) = true) (ho : o = some a) (hc : xh_is ci h a = some u) (h1 : mc ≤ bc) (h2 : ms ≤ bs) (hr : xm_Run g M' d' [.ref a, a1, a2, a3, a4, a5, a6] h mc ms (fun v h' => ∃ r, v = some (.int r) ∧ Qf r h') xm_no) (k : ∀ r h', Qf r h' → xm_W g Γ n ls (.int r :: st) h' (bc - mc) (bs - ms)) : xm_W g Γ pc ls (a6 :: a5 :: a4 :: a3 :: a2 :: a1 :: va_rf o :: st) h bc bs := by
  subst ho
  obtain ⟨w, fs, q⟩ := xh_is_s hc
  refine xm_use hi ⟨hs, w, fs, mc, ms, q, ⟨h1, h2⟩, ?_⟩
  exact xm_Run.mono hr (fun v h' q => by
    obtain ⟨r, rfl, q⟩ := q
    exact k r h' q) (fun E q h' x => x)
theorem xw_tXsi6 {M' : xm_M} {d' mc ms : Nat} {X : xm_X} {Qf : Int32 → xm_H → Prop} {a1 a2 a3 a4 a5 a6 : Value} (hi : xm_Imp g Γ pc (xi_invX g M' d' 6 n X)) (hs : xm_stk 6 (a6 :: a5 :: a4 :: a3 :: a2 :: a1 :: st) = true) (h1 : mc ≤ bc) (h2 : ms ≤ bs) (hr : xm_Run g M' d' [a1, a2, a3, a4, a5, a6] h mc ms (fun v h' => ∃ r, v = some (.int r) ∧ Qf r h') X) (k : ∀ r h', Qf r h' → xm_W g Γ n ls (.int r :: st) h' (bc - mc) (bs - ms)) : xm_W g Γ pc ls (a6 :: a5 :: a4 :: a3 :: a2 :: a1 :: st) h bc bs := by
  refine xm_use hi ⟨hs, mc, ms, ⟨h1, h2⟩, ?_⟩
  exact xm_Run.mono hr (fun v h' q => by
    obtain ⟨r, rfl, q⟩ := q
    exact k r h' q) (fun E q h' x => x)
theorem xw_tXvi6 {ci : Nat} {M' : xm_M} {d' mc ms : Nat} {X : xm_X} {Qf : Int32 → xm_H → Prop} {a1 a2 a3 a4 a5 a6 : Value} {u : Unit} (hi : xm_Imp g Γ pc (xi_virX g ci M' d' 6 n X)) (hs : xm_stk 6 (a6 :: a5 :: a4 :: a3 :: a2 :: a1 :: va_rf o :: st) = true) (ho : o = some a) (hc : xh_is ci h a = some u) (h1 : mc ≤ bc) (h2 : ms ≤ bs) (hr : xm_Run g M' d' [.ref a, a1, a2, a3, a4, a5, a6] h mc ms (fun v h' => ∃ r, v = some (.int r) ∧ Qf r h') X) (k : ∀ r h', Qf r h' → xm_W g Γ n ls (.int r :: st) h' (bc - mc) (bs - ms)) : xm_W g Γ pc ls (a6 :: a5 :: a4 :: a3 :: a2 :: a1 :: va_rf o :: st) h bc bs := by
  subst ho
  obtain ⟨w, fs, q⟩ := xh_is_s hc
  refine xm_use hi ⟨hs, w, fs, mc, ms, q, ⟨h1, h2⟩, ?_⟩
  exact xm_Run.mono hr (fun v h' q => by
    obtain ⟨r, rfl, q⟩ := q
    exact k r h' q) (fun E q h' x => x)
theorem xw_tHvi6 {ci : Nat} {M' : xm_M} {d' mc ms : Nat} {XH : xm_X} {hs0 : List (String × Nat)} {Qf : Int32 → xm_H → Prop} {a1 a2 a3 a4 a5 a6 : Value} {u : Unit} (hi : xm_Imp g Γ pc (xi_virH g ci M' d' 6 n hs0)) (hs : xm_stk 6 (a6 :: a5 :: a4 :: a3 :: a2 :: a1 :: va_rf o :: st) = true) (ho : o = some a) (hc : xh_is ci h a = some u) (h1 : mc ≤ bc) (h2 : ms ≤ bs) (hr : xm_Run g M' d' [.ref a, a1, a2, a3, a4, a5, a6] h mc ms (fun v h' => ∃ r, v = some (.int r) ∧ Qf r h') XH) (k : ∀ r h', Qf r h' → xm_W g Γ n ls (.int r :: st) h' (bc - mc) (bs - ms)) (kx : ∀ E q h', XH E q h' → xm_hnd hs0 E (fun t => xm_W g Γ t ls [.ref q] h' (bc - mc) (bs - ms))) : xm_W g Γ pc ls (a6 :: a5 :: a4 :: a3 :: a2 :: a1 :: va_rf o :: st) h bc bs := by
  subst ho
  obtain ⟨w, fs, q⟩ := xh_is_s hc
  refine xm_use hi ⟨hs, w, fs, mc, ms, q, ⟨h1, h2⟩, ?_⟩
  exact xm_Run.mono hr (fun v h' q => by
    obtain ⟨r, rfl, q⟩ := q
    exact k r h' q) kx
theorem xw_tpi6 {M' : xm_M} {d' mc ms : Nat} {Qf : Int32 → xm_H → Prop} {a1 a2 a3 a4 a5 a6 : Value} (hi : xm_Imp g Γ pc (xi_spe g M' d' 6 n)) (hs : xm_stk 6 (a6 :: a5 :: a4 :: a3 :: a2 :: a1 :: va_rf o :: st) = true) (ho : o = some a) (h1 : mc ≤ bc) (h2 : ms ≤ bs) (hr : xm_Run g M' d' [.ref a, a1, a2, a3, a4, a5, a6] h mc ms (fun v h' => ∃ r, v = some (.int r) ∧ Qf r h') xm_no) (k : ∀ r h', Qf r h' → xm_W g Γ n ls (.int r :: st) h' (bc - mc) (bs - ms)) : xm_W g Γ pc ls (a6 :: a5 :: a4 :: a3 :: a2 :: a1 :: va_rf o :: st) h bc bs := by
  subst ho
  refine xm_use hi ⟨hs, mc, ms, ⟨h1, h2⟩, ?_⟩
  exact xm_Run.mono hr (fun v h' q => by
    obtain ⟨r, rfl, q⟩ := q
    exact k r h' q) (fun E q h' x => x)
theorem xw_tsl6 {M' : xm_M} {d' mc ms : Nat} {Qf : Int64 → xm_H → Prop} {a1 a2 a3 a4 a5 a6 : Value} (hi : xm_Imp g Γ pc (xi_inv g M' d' 6 n)) (hs : xm_stk 6 (a6 :: a5 :: a4 :: a3 :: a2 :: a1 :: st) = true) (h1 : mc ≤ bc) (h2 : ms ≤ bs) (hr : xm_Run g M' d' [a1, a2, a3, a4, a5, a6] h mc ms (fun v h' => ∃ r, v = some (.long r) ∧ Qf r h') xm_no) (k : ∀ r h', Qf r h' → xm_W g Γ n ls (.long r :: st) h' (bc - mc) (bs - ms)) : xm_W g Γ pc ls (a6 :: a5 :: a4 :: a3 :: a2 :: a1 :: st) h bc bs := by
  refine xm_use hi ⟨hs, mc, ms, ⟨h1, h2⟩, ?_⟩
  exact xm_Run.mono hr (fun v h' q => by
    obtain ⟨r, rfl, q⟩ := q
    exact k r h' q) (fun E q h' x => x)
theorem xw_tvl6 {ci : Nat} {M' : xm_M} {d' mc ms : Nat} {Qf : Int64 → xm_H → Prop} {a1 a2 a3 a4 a5 a6 : Value} {u : Unit} (hi : xm_Imp g Γ pc (xi_vir g ci M' d' 6 n)) (hs : xm_stk 6 (a6 :: a5 :: a4 :: a3 :: a2 :: a1 :: va_rf o :: st) = true) (ho : o = some a) (hc : xh_is ci h a = some u) (h1 : mc ≤ bc) (h2 : ms ≤ bs) (hr : xm_Run g M' d' [.ref a, a1, a2, a3, a4, a5, a6] h mc ms (fun v h' => ∃ r, v = some (.long r) ∧ Qf r h') xm_no) (k : ∀ r h', Qf r h' → xm_W g Γ n ls (.long r :: st) h' (bc - mc) (bs - ms)) : xm_W g Γ pc ls (a6 :: a5 :: a4 :: a3 :: a2 :: a1 :: va_rf o :: st) h bc bs := by
  subst ho
  obtain ⟨w, fs, q⟩ := xh_is_s hc
  refine xm_use hi ⟨hs, w, fs, mc, ms, q, ⟨h1, h2⟩, ?_⟩
  exact xm_Run.mono hr (fun v h' q => by
    obtain ⟨r, rfl, q⟩ := q
    exact k r h' q) (fun E q h' x => x)
theorem xw_tXsl6 {M' : xm_M} {d' mc ms : Nat} {X : xm_X} {Qf : Int64 → xm_H → Prop} {a1 a2 a3 a4 a5 a6 : Value} (hi : xm_Imp g Γ pc (xi_invX g M' d' 6 n X)) (hs : xm_stk 6 (a6 :: a5 :: a4 :: a3 :: a2 :: a1 :: st) = true) (h1 : mc ≤ bc) (h2 : ms ≤ bs) (hr : xm_Run g M' d' [a1, a2, a3, a4, a5, a6] h mc ms (fun v h' => ∃ r, v = some (.long r) ∧ Qf r h') X) (k : ∀ r h', Qf r h' → xm_W g Γ n ls (.long r :: st) h' (bc - mc) (bs - ms)) : xm_W g Γ pc ls (a6 :: a5 :: a4 :: a3 :: a2 :: a1 :: st) h bc bs := by
  refine xm_use hi ⟨hs, mc, ms, ⟨h1, h2⟩, ?_⟩
  exact xm_Run.mono hr (fun v h' q => by
    obtain ⟨r, rfl, q⟩ := q
    exact k r h' q) (fun E q h' x => x)
theorem xw_tXvl6 {ci : Nat} {M' : xm_M} {d' mc ms : Nat} {X : xm_X} {Qf : Int64 → xm_H → Prop} {a1 a2 a3 a4 a5 a6 : Value} {u : Unit} (hi : xm_Imp g Γ pc (xi_virX g ci M' d' 6 n X)) (hs : xm_stk 6 (a6 :: a5 :: a4 :: a3 :: a2 :: a1 :: va_rf o :: st) = true) (ho : o = some a) (hc : xh_is ci h a = some u) (h1 : mc ≤ bc) (h2 : ms ≤ bs) (hr : xm_Run g M' d' [.ref a, a1, a2, a3, a4, a5, a6] h mc ms (fun v h' => ∃ r, v = some (.long r) ∧ Qf r h') X) (k : ∀ r h', Qf r h' → xm_W g Γ n ls (.long r :: st) h' (bc - mc) (bs - ms)) : xm_W g Γ pc ls (a6 :: a5 :: a4 :: a3 :: a2 :: a1 :: va_rf o :: st) h bc bs := by
  subst ho
  obtain ⟨w, fs, q⟩ := xh_is_s hc
  refine xm_use hi ⟨hs, w, fs, mc, ms, q, ⟨h1, h2⟩, ?_⟩
  exact xm_Run.mono hr (fun v h' q => by
    obtain ⟨r, rfl, q⟩ := q
    exact k r h' q) (fun E q h' x => x)
theorem xw_tHvl6 {ci : Nat} {M' : xm_M} {d' mc ms : Nat} {XH : xm_X} {hs0 : List (String × Nat)} {Qf : Int64 → xm_H → Prop} {a1 a2 a3 a4 a5 a6 : Value} {u : Unit} (hi : xm_Imp g Γ pc (xi_virH g ci M' d' 6 n hs0)) (hs : xm_stk 6 (a6 :: a5 :: a4 :: a3 :: a2 :: a1 :: va_rf o :: st) = true) (ho : o = some a) (hc : xh_is ci h a = some u) (h1 : mc ≤ bc) (h2 : ms ≤ bs) (hr : xm_Run g M' d' [.ref a, a1, a2, a3, a4, a5, a6] h mc ms (fun v h' => ∃ r, v = some (.long r) ∧ Qf r h') XH) (k : ∀ r h', Qf r h' → xm_W g Γ n ls (.long r :: st) h' (bc - mc) (bs - ms)) (kx : ∀ E q h', XH E q h' → xm_hnd hs0 E (fun t => xm_W g Γ t ls [.ref q] h' (bc - mc) (bs - ms))) : xm_W g Γ pc ls (a6 :: a5 :: a4 :: a3 :: a2 :: a1 :: va_rf o :: st) h bc bs := by
  subst ho
  obtain ⟨w, fs, q⟩ := xh_is_s hc
  refine xm_use hi ⟨hs, w, fs, mc, ms, q, ⟨h1, h2⟩, ?_⟩
  exact xm_Run.mono hr (fun v h' q => by
    obtain ⟨r, rfl, q⟩ := q
    exact k r h' q) kx
theorem xw_tpl6 {M' : xm_M} {d' mc ms : Nat} {Qf : Int64 → xm_H → Prop} {a1 a2 a3 a4 a5 a6 : Value} (hi : xm_Imp g Γ pc (xi_spe g M' d' 6 n)) (hs : xm_stk 6 (a6 :: a5 :: a4 :: a3 :: a2 :: a1 :: va_rf o :: st) = true) (ho : o = some a) (h1 : mc ≤ bc) (h2 : ms ≤ bs) (hr : xm_Run g M' d' [.ref a, a1, a2, a3, a4, a5, a6] h mc ms (fun v h' => ∃ r, v = some (.long r) ∧ Qf r h') xm_no) (k : ∀ r h', Qf r h' → xm_W g Γ n ls (.long r :: st) h' (bc - mc) (bs - ms)) : xm_W g Γ pc ls (a6 :: a5 :: a4 :: a3 :: a2 :: a1 :: va_rf o :: st) h bc bs := by
  subst ho
  refine xm_use hi ⟨hs, mc, ms, ⟨h1, h2⟩, ?_⟩
  exact xm_Run.mono hr (fun v h' q => by
    obtain ⟨r, rfl, q⟩ := q
    exact k r h' q) (fun E q h' x => x)
theorem xw_tsf6 {M' : xm_M} {d' mc ms : Nat} {Qf : UInt32 → xm_H → Prop} {a1 a2 a3 a4 a5 a6 : Value} (hi : xm_Imp g Γ pc (xi_inv g M' d' 6 n)) (hs : xm_stk 6 (a6 :: a5 :: a4 :: a3 :: a2 :: a1 :: st) = true) (h1 : mc ≤ bc) (h2 : ms ≤ bs) (hr : xm_Run g M' d' [a1, a2, a3, a4, a5, a6] h mc ms (fun v h' => ∃ r, v = some (.float r) ∧ Qf r h') xm_no) (k : ∀ r h', Qf r h' → xm_W g Γ n ls (.float r :: st) h' (bc - mc) (bs - ms)) : xm_W g Γ pc ls (a6 :: a5 :: a4 :: a3 :: a2 :: a1 :: st) h bc bs := by
  refine xm_use hi ⟨hs, mc, ms, ⟨h1, h2⟩, ?_⟩
  exact xm_Run.mono hr (fun v h' q => by
    obtain ⟨r, rfl, q⟩ := q
    exact k r h' q) (fun E q h' x => x)
theorem xw_tvf6 {ci : Nat} {M' : xm_M} {d' mc ms : Nat} {Qf : UInt32 → xm_H → Prop} {a1 a2 a3 a4 a5 a6 : Value} {u : Unit} (hi : xm_Imp g Γ pc (xi_vir g ci M' d' 6 n)) (hs : xm_stk 6 (a6 :: a5 :: a4 :: a3 :: a2 :: a1 :: va_rf o :: st) = true) (ho : o = some a) (hc : xh_is ci h a = some u) (h1 : mc ≤ bc) (h2 : ms ≤ bs) (hr : xm_Run g M' d' [.ref a, a1, a2, a3, a4, a5, a6] h mc ms (fun v h' => ∃ r, v = some (.float r) ∧ Qf r h') xm_no) (k : ∀ r h', Qf r h' → xm_W g Γ n ls (.float r :: st) h' (bc - mc) (bs - ms)) : xm_W g Γ pc ls (a6 :: a5 :: a4 :: a3 :: a2 :: a1 :: va_rf o :: st) h bc bs := by
  subst ho
  obtain ⟨w, fs, q⟩ := xh_is_s hc
  refine xm_use hi ⟨hs, w, fs, mc, ms, q, ⟨h1, h2⟩, ?_⟩
  exact xm_Run.mono hr (fun v h' q => by
    obtain ⟨r, rfl, q⟩ := q
    exact k r h' q) (fun E q h' x => x)
theorem xw_tXsf6 {M' : xm_M} {d' mc ms : Nat} {X : xm_X} {Qf : UInt32 → xm_H → Prop} {a1 a2 a3 a4 a5 a6 : Value} (hi : xm_Imp g Γ pc (xi_invX g M' d' 6 n X)) (hs : xm_stk 6 (a6 :: a5 :: a4 :: a3 :: a2 :: a1 :: st) = true) (h1 : mc ≤ bc) (h2 : ms ≤ bs) (hr : xm_Run g M' d' [a1, a2, a3, a4, a5, a6] h mc ms (fun v h' => ∃ r, v = some (.float r) ∧ Qf r h') X) (k : ∀ r h', Qf r h' → xm_W g Γ n ls (.float r :: st) h' (bc - mc) (bs - ms)) : xm_W g Γ pc ls (a6 :: a5 :: a4 :: a3 :: a2 :: a1 :: st) h bc bs := by
  refine xm_use hi ⟨hs, mc, ms, ⟨h1, h2⟩, ?_⟩
  exact xm_Run.mono hr (fun v h' q => by
    obtain ⟨r, rfl, q⟩ := q
    exact k r h' q) (fun E q h' x => x)
theorem xw_tXvf6 {ci : Nat} {M' : xm_M} {d' mc ms : Nat} {X : xm_X} {Qf : UInt32 → xm_H → Prop} {a1 a2 a3 a4 a5 a6 : Value} {u : Unit} (hi : xm_Imp g Γ pc (xi_virX g ci M' d' 6 n X)) (hs : xm_stk 6 (a6 :: a5 :: a4 :: a3 :: a2 :: a1 :: va_rf o :: st) = true) (ho : o = some a) (hc : xh_is ci h a = some u) (h1 : mc ≤ bc) (h2 : ms ≤ bs) (hr : xm_Run g M' d' [.ref a, a1, a2, a3, a4, a5, a6] h mc ms (fun v h' => ∃ r, v = some (.float r) ∧ Qf r h') X) (k : ∀ r h', Qf r h' → xm_W g Γ n ls (.float r :: st) h' (bc - mc) (bs - ms)) : xm_W g Γ pc ls (a6 :: a5 :: a4 :: a3 :: a2 :: a1 :: va_rf o :: st) h bc bs := by
  subst ho
  obtain ⟨w, fs, q⟩ := xh_is_s hc
  refine xm_use hi ⟨hs, w, fs, mc, ms, q, ⟨h1, h2⟩, ?_⟩
  exact xm_Run.mono hr (fun v h' q => by
    obtain ⟨r, rfl, q⟩ := q
    exact k r h' q) (fun E q h' x => x)
theorem xw_tHvf6 {ci : Nat} {M' : xm_M} {d' mc ms : Nat} {XH : xm_X} {hs0 : List (String × Nat)} {Qf : UInt32 → xm_H → Prop} {a1 a2 a3 a4 a5 a6 : Value} {u : Unit} (hi : xm_Imp g Γ pc (xi_virH g ci M' d' 6 n hs0)) (hs : xm_stk 6 (a6 :: a5 :: a4 :: a3 :: a2 :: a1 :: va_rf o :: st) = true) (ho : o = some a) (hc : xh_is ci h a = some u) (h1 : mc ≤ bc) (h2 : ms ≤ bs) (hr : xm_Run g M' d' [.ref a, a1, a2, a3, a4, a5, a6] h mc ms (fun v h' => ∃ r, v = some (.float r) ∧ Qf r h') XH) (k : ∀ r h', Qf r h' → xm_W g Γ n ls (.float r :: st) h' (bc - mc) (bs - ms)) (kx : ∀ E q h', XH E q h' → xm_hnd hs0 E (fun t => xm_W g Γ t ls [.ref q] h' (bc - mc) (bs - ms))) : xm_W g Γ pc ls (a6 :: a5 :: a4 :: a3 :: a2 :: a1 :: va_rf o :: st) h bc bs := by
  subst ho
  obtain ⟨w, fs, q⟩ := xh_is_s hc
  refine xm_use hi ⟨hs, w, fs, mc, ms, q, ⟨h1, h2⟩, ?_⟩
  exact xm_Run.mono hr (fun v h' q => by
    obtain ⟨r, rfl, q⟩ := q
    exact k r h' q) kx
theorem xw_tpf6 {M' : xm_M} {d' mc ms : Nat} {Qf : UInt32 → xm_H → Prop} {a1 a2 a3 a4 a5 a6 : Value} (hi : xm_Imp g Γ pc (xi_spe g M' d' 6 n)) (hs : xm_stk 6 (a6 :: a5 :: a4 :: a3 :: a2 :: a1 :: va_rf o :: st) = true) (ho : o = some a) (h1 : mc ≤ bc) (h2 : ms ≤ bs) (hr : xm_Run g M' d' [.ref a, a1, a2, a3, a4, a5, a6] h mc ms (fun v h' => ∃ r, v = some (.float r) ∧ Qf r h') xm_no) (k : ∀ r h', Qf r h' → xm_W g Γ n ls (.float r :: st) h' (bc - mc) (bs - ms)) : xm_W g Γ pc ls (a6 :: a5 :: a4 :: a3 :: a2 :: a1 :: va_rf o :: st) h bc bs := by
  subst ho
  refine xm_use hi ⟨hs, mc, ms, ⟨h1, h2⟩, ?_⟩
  exact xm_Run.mono hr (fun v h' q => by
    obtain ⟨r, rfl, q⟩ := q
    exact k r h' q) (fun E q h' x => x)
theorem xw_tsd6 {M' : xm_M} {d' mc ms : Nat} {Qf : UInt64 → xm_H → Prop} {a1 a2 a3 a4 a5 a6 : Value} (hi : xm_Imp g Γ pc (xi_inv g M' d' 6 n)) (hs : xm_stk 6 (a6 :: a5 :: a4 :: a3 :: a2 :: a1 :: st) = true) (h1 : mc ≤ bc) (h2 : ms ≤ bs) (hr : xm_Run g M' d' [a1, a2, a3, a4, a5, a6] h mc ms (fun v h' => ∃ r, v = some (.double r) ∧ Qf r h') xm_no) (k : ∀ r h', Qf r h' → xm_W g Γ n ls (.double r :: st) h' (bc - mc) (bs - ms)) : xm_W g Γ pc ls (a6 :: a5 :: a4 :: a3 :: a2 :: a1 :: st) h bc bs := by
  refine xm_use hi ⟨hs, mc, ms, ⟨h1, h2⟩, ?_⟩
  exact xm_Run.mono hr (fun v h' q => by
    obtain ⟨r, rfl, q⟩ := q
    exact k r h' q) (fun E q h' x => x)
theorem xw_tvd6 {ci : Nat} {M' : xm_M} {d' mc ms : Nat} {Qf : UInt64 → xm_H → Prop} {a1 a2 a3 a4 a5 a6 : Value} {u : Unit} (hi : xm_Imp g Γ pc (xi_vir g ci M' d' 6 n)) (hs : xm_stk 6 (a6 :: a5 :: a4 :: a3 :: a2 :: a1 :: va_rf o :: st) = true) (ho : o = some a) (hc : xh_is ci h a = some u) (h1 : mc ≤ bc) (h2 : ms ≤ bs) (hr : xm_Run g M' d' [.ref a, a1, a2, a3, a4, a5, a6] h mc ms (fun v h' => ∃ r, v = some (.double r) ∧ Qf r h') xm_no) (k : ∀ r h', Qf r h' → xm_W g Γ n ls (.double r :: st) h' (bc - mc) (bs - ms)) : xm_W g Γ pc ls (a6 :: a5 :: a4 :: a3 :: a2 :: a1 :: va_rf o :: st) h bc bs := by
  subst ho
  obtain ⟨w, fs, q⟩ := xh_is_s hc
  refine xm_use hi ⟨hs, w, fs, mc, ms, q, ⟨h1, h2⟩, ?_⟩
  exact xm_Run.mono hr (fun v h' q => by
    obtain ⟨r, rfl, q⟩ := q
    exact k r h' q) (fun E q h' x => x)
theorem xw_tXsd6 {M' : xm_M} {d' mc ms : Nat} {X : xm_X} {Qf : UInt64 → xm_H → Prop} {a1 a2 a3 a4 a5 a6 : Value} (hi : xm_Imp g Γ pc (xi_invX g M' d' 6 n X)) (hs : xm_stk 6 (a6 :: a5 :: a4 :: a3 :: a2 :: a1 :: st) = true) (h1 : mc ≤ bc) (h2 : ms ≤ bs) (hr : xm_Run g M' d' [a1, a2, a3, a4, a5, a6] h mc ms (fun v h' => ∃ r, v = some (.double r) ∧ Qf r h') X) (k : ∀ r h', Qf r h' → xm_W g Γ n ls (.double r :: st) h' (bc - mc) (bs - ms)) : xm_W g Γ pc ls (a6 :: a5 :: a4 :: a3 :: a2 :: a1 :: st) h bc bs := by
  refine xm_use hi ⟨hs, mc, ms, ⟨h1, h2⟩, ?_⟩
  exact xm_Run.mono hr (fun v h' q => by
    obtain ⟨r, rfl, q⟩ := q
    exact k r h' q) (fun E q h' x => x)
theorem xw_tXvd6 {ci : Nat} {M' : xm_M} {d' mc ms : Nat} {X : xm_X} {Qf : UInt64 → xm_H → Prop} {a1 a2 a3 a4 a5 a6 : Value} {u : Unit} (hi : xm_Imp g Γ pc (xi_virX g ci M' d' 6 n X)) (hs : xm_stk 6 (a6 :: a5 :: a4 :: a3 :: a2 :: a1 :: va_rf o :: st) = true) (ho : o = some a) (hc : xh_is ci h a = some u) (h1 : mc ≤ bc) (h2 : ms ≤ bs) (hr : xm_Run g M' d' [.ref a, a1, a2, a3, a4, a5, a6] h mc ms (fun v h' => ∃ r, v = some (.double r) ∧ Qf r h') X) (k : ∀ r h', Qf r h' → xm_W g Γ n ls (.double r :: st) h' (bc - mc) (bs - ms)) : xm_W g Γ pc ls (a6 :: a5 :: a4 :: a3 :: a2 :: a1 :: va_rf o :: st) h bc bs := by
  subst ho
  obtain ⟨w, fs, q⟩ := xh_is_s hc
  refine xm_use hi ⟨hs, w, fs, mc, ms, q, ⟨h1, h2⟩, ?_⟩
  exact xm_Run.mono hr (fun v h' q => by
    obtain ⟨r, rfl, q⟩ := q
    exact k r h' q) (fun E q h' x => x)
theorem xw_tHvd6 {ci : Nat} {M' : xm_M} {d' mc ms : Nat} {XH : xm_X} {hs0 : List (String × Nat)} {Qf : UInt64 → xm_H → Prop} {a1 a2 a3 a4 a5 a6 : Value} {u : Unit} (hi : xm_Imp g Γ pc (xi_virH g ci M' d' 6 n hs0)) (hs : xm_stk 6 (a6 :: a5 :: a4 :: a3 :: a2 :: a1 :: va_rf o :: st) = true) (ho : o = some a) (hc : xh_is ci h a = some u) (h1 : mc ≤ bc) (h2 : ms ≤ bs) (hr : xm_Run g M' d' [.ref a, a1, a2, a3, a4, a5, a6] h mc ms (fun v h' => ∃ r, v = some (.double r) ∧ Qf r h') XH) (k : ∀ r h', Qf r h' → xm_W g Γ n ls (.double r :: st) h' (bc - mc) (bs - ms)) (kx : ∀ E q h', XH E q h' → xm_hnd hs0 E (fun t => xm_W g Γ t ls [.ref q] h' (bc - mc) (bs - ms))) : xm_W g Γ pc ls (a6 :: a5 :: a4 :: a3 :: a2 :: a1 :: va_rf o :: st) h bc bs := by
  subst ho
  obtain ⟨w, fs, q⟩ := xh_is_s hc
  refine xm_use hi ⟨hs, w, fs, mc, ms, q, ⟨h1, h2⟩, ?_⟩
  exact xm_Run.mono hr (fun v h' q => by
    obtain ⟨r, rfl, q⟩ := q
    exact k r h' q) kx
theorem xw_tpd6 {M' : xm_M} {d' mc ms : Nat} {Qf : UInt64 → xm_H → Prop} {a1 a2 a3 a4 a5 a6 : Value} (hi : xm_Imp g Γ pc (xi_spe g M' d' 6 n)) (hs : xm_stk 6 (a6 :: a5 :: a4 :: a3 :: a2 :: a1 :: va_rf o :: st) = true) (ho : o = some a) (h1 : mc ≤ bc) (h2 : ms ≤ bs) (hr : xm_Run g M' d' [.ref a, a1, a2, a3, a4, a5, a6] h mc ms (fun v h' => ∃ r, v = some (.double r) ∧ Qf r h') xm_no) (k : ∀ r h', Qf r h' → xm_W g Γ n ls (.double r :: st) h' (bc - mc) (bs - ms)) : xm_W g Γ pc ls (a6 :: a5 :: a4 :: a3 :: a2 :: a1 :: va_rf o :: st) h bc bs := by
  subst ho
  refine xm_use hi ⟨hs, mc, ms, ⟨h1, h2⟩, ?_⟩
  exact xm_Run.mono hr (fun v h' q => by
    obtain ⟨r, rfl, q⟩ := q
    exact k r h' q) (fun E q h' x => x)
theorem xw_tsr6 {M' : xm_M} {d' mc ms : Nat} {Qf : Option Nat → xm_H → Prop} {a1 a2 a3 a4 a5 a6 : Value} (hi : xm_Imp g Γ pc (xi_inv g M' d' 6 n)) (hs : xm_stk 6 (a6 :: a5 :: a4 :: a3 :: a2 :: a1 :: st) = true) (h1 : mc ≤ bc) (h2 : ms ≤ bs) (hr : xm_Run g M' d' [a1, a2, a3, a4, a5, a6] h mc ms (fun v h' => ∃ r, v = some (va_rf r) ∧ Qf r h') xm_no) (k : ∀ r h', Qf r h' → xm_W g Γ n ls (va_rf r :: st) h' (bc - mc) (bs - ms)) : xm_W g Γ pc ls (a6 :: a5 :: a4 :: a3 :: a2 :: a1 :: st) h bc bs := by
  refine xm_use hi ⟨hs, mc, ms, ⟨h1, h2⟩, ?_⟩
  exact xm_Run.mono hr (fun v h' q => by
    obtain ⟨r, rfl, q⟩ := q
    exact k r h' q) (fun E q h' x => x)
theorem xw_tvr6 {ci : Nat} {M' : xm_M} {d' mc ms : Nat} {Qf : Option Nat → xm_H → Prop} {a1 a2 a3 a4 a5 a6 : Value} {u : Unit} (hi : xm_Imp g Γ pc (xi_vir g ci M' d' 6 n)) (hs : xm_stk 6 (a6 :: a5 :: a4 :: a3 :: a2 :: a1 :: va_rf o :: st) = true) (ho : o = some a) (hc : xh_is ci h a = some u) (h1 : mc ≤ bc) (h2 : ms ≤ bs) (hr : xm_Run g M' d' [.ref a, a1, a2, a3, a4, a5, a6] h mc ms (fun v h' => ∃ r, v = some (va_rf r) ∧ Qf r h') xm_no) (k : ∀ r h', Qf r h' → xm_W g Γ n ls (va_rf r :: st) h' (bc - mc) (bs - ms)) : xm_W g Γ pc ls (a6 :: a5 :: a4 :: a3 :: a2 :: a1 :: va_rf o :: st) h bc bs := by
  subst ho
  obtain ⟨w, fs, q⟩ := xh_is_s hc
  refine xm_use hi ⟨hs, w, fs, mc, ms, q, ⟨h1, h2⟩, ?_⟩
  exact xm_Run.mono hr (fun v h' q => by
    obtain ⟨r, rfl, q⟩ := q
    exact k r h' q) (fun E q h' x => x)
theorem xw_tXsr6 {M' : xm_M} {d' mc ms : Nat} {X : xm_X} {Qf : Option Nat → xm_H → Prop} {a1 a2 a3 a4 a5 a6 : Value} (hi : xm_Imp g Γ pc (xi_invX g M' d' 6 n X)) (hs : xm_stk 6 (a6 :: a5 :: a4 :: a3 :: a2 :: a1 :: st) = true) (h1 : mc ≤ bc) (h2 : ms ≤ bs) (hr : xm_Run g M' d' [a1, a2, a3, a4, a5, a6] h mc ms (fun v h' => ∃ r, v = some (va_rf r) ∧ Qf r h') X) (k : ∀ r h', Qf r h' → xm_W g Γ n ls (va_rf r :: st) h' (bc - mc) (bs - ms)) : xm_W g Γ pc ls (a6 :: a5 :: a4 :: a3 :: a2 :: a1 :: st) h bc bs := by
  refine xm_use hi ⟨hs, mc, ms, ⟨h1, h2⟩, ?_⟩
  exact xm_Run.mono hr (fun v h' q => by
    obtain ⟨r, rfl, q⟩ := q
    exact k r h' q) (fun E q h' x => x)
theorem xw_tXvr6 {ci : Nat} {M' : xm_M} {d' mc ms : Nat} {X : xm_X} {Qf : Option Nat → xm_H → Prop} {a1 a2 a3 a4 a5 a6 : Value} {u : Unit} (hi : xm_Imp g Γ pc (xi_virX g ci M' d' 6 n X)) (hs : xm_stk 6 (a6 :: a5 :: a4 :: a3 :: a2 :: a1 :: va_rf o :: st) = true) (ho : o = some a) (hc : xh_is ci h a = some u) (h1 : mc ≤ bc) (h2 : ms ≤ bs) (hr : xm_Run g M' d' [.ref a, a1, a2, a3, a4, a5, a6] h mc ms (fun v h' => ∃ r, v = some (va_rf r) ∧ Qf r h') X) (k : ∀ r h', Qf r h' → xm_W g Γ n ls (va_rf r :: st) h' (bc - mc) (bs - ms)) : xm_W g Γ pc ls (a6 :: a5 :: a4 :: a3 :: a2 :: a1 :: va_rf o :: st) h bc bs := by
  subst ho
  obtain ⟨w, fs, q⟩ := xh_is_s hc
  refine xm_use hi ⟨hs, w, fs, mc, ms, q, ⟨h1, h2⟩, ?_⟩
  exact xm_Run.mono hr (fun v h' q => by
    obtain ⟨r, rfl, q⟩ := q
    exact k r h' q) (fun E q h' x => x)
theorem xw_tHvr6 {ci : Nat} {M' : xm_M} {d' mc ms : Nat} {XH : xm_X} {hs0 : List (String × Nat)} {Qf : Option Nat → xm_H → Prop} {a1 a2 a3 a4 a5 a6 : Value} {u : Unit} (hi : xm_Imp g Γ pc (xi_virH g ci M' d' 6 n hs0)) (hs : xm_stk 6 (a6 :: a5 :: a4 :: a3 :: a2 :: a1 :: va_rf o :: st) = true) (ho : o = some a) (hc : xh_is ci h a = some u) (h1 : mc ≤ bc) (h2 : ms ≤ bs) (hr : xm_Run g M' d' [.ref a, a1, a2, a3, a4, a5, a6] h mc ms (fun v h' => ∃ r, v = some (va_rf r) ∧ Qf r h') XH) (k : ∀ r h', Qf r h' → xm_W g Γ n ls (va_rf r :: st) h' (bc - mc) (bs - ms)) (kx : ∀ E q h', XH E q h' → xm_hnd hs0 E (fun t => xm_W g Γ t ls [.ref q] h' (bc - mc) (bs - ms))) : xm_W g Γ pc ls (a6 :: a5 :: a4 :: a3 :: a2 :: a1 :: va_rf o :: st) h bc bs := by
  subst ho
  obtain ⟨w, fs, q⟩ := xh_is_s hc
  refine xm_use hi ⟨hs, w, fs, mc, ms, q, ⟨h1, h2⟩, ?_⟩
  exact xm_Run.mono hr (fun v h' q => by
    obtain ⟨r, rfl, q⟩ := q
    exact k r h' q) kx
theorem xw_tpr6 {M' : xm_M} {d' mc ms : Nat} {Qf : Option Nat → xm_H → Prop} {a1 a2 a3 a4 a5 a6 : Value} (hi : xm_Imp g Γ pc (xi_spe g M' d' 6 n)) (hs : xm_stk 6 (a6 :: a5 :: a4 :: a3 :: a2 :: a1 :: va_rf o :: st) = true) (ho : o = some a) (h1 : mc ≤ bc) (h2 : ms ≤ bs) (hr : xm_Run g M' d' [.ref a, a1, a2, a3, a4, a5, a6] h mc ms (fun v h' => ∃ r, v = some (va_rf r) ∧ Qf r h') xm_no) (k : ∀ r h', Qf r h' → xm_W g Γ n ls (va_rf r :: st) h' (bc - mc) (bs - ms)) : xm_W g Γ pc ls (a6 :: a5 :: a4 :: a3 :: a2 :: a1 :: va_rf o :: st) h bc bs := by
  subst ho
  refine xm_use hi ⟨hs, mc, ms, ⟨h1, h2⟩, ?_⟩
  exact xm_Run.mono hr (fun v h' q => by
    obtain ⟨r, rfl, q⟩ := q
    exact k r h' q) (fun E q h' x => x)
theorem xw_tsu6 {M' : xm_M} {d' mc ms : Nat} {Qf : xm_H → Prop} {a1 a2 a3 a4 a5 a6 : Value} (hi : xm_Imp g Γ pc (xi_inv g M' d' 6 n)) (hs : xm_stk 6 (a6 :: a5 :: a4 :: a3 :: a2 :: a1 :: st) = true) (h1 : mc ≤ bc) (h2 : ms ≤ bs) (hr : xm_Run g M' d' [a1, a2, a3, a4, a5, a6] h mc ms (fun v h' => v = none ∧ Qf h') xm_no) (k : ∀ h', Qf h' → xm_W g Γ n ls st h' (bc - mc) (bs - ms)) : xm_W g Γ pc ls (a6 :: a5 :: a4 :: a3 :: a2 :: a1 :: st) h bc bs := by
  refine xm_use hi ⟨hs, mc, ms, ⟨h1, h2⟩, ?_⟩
  exact xm_Run.mono hr (fun v h' q => by
    obtain ⟨rfl, q⟩ := q
    exact k h' q) (fun E q h' x => x)
theorem xw_tvu6 {ci : Nat} {M' : xm_M} {d' mc ms : Nat} {Qf : xm_H → Prop} {a1 a2 a3 a4 a5 a6 : Value} {u : Unit} (hi : xm_Imp g Γ pc (xi_vir g ci M' d' 6 n)) (hs : xm_stk 6 (a6 :: a5 :: a4 :: a3 :: a2 :: a1 :: va_rf o :: st) = true) (ho : o = some a) (hc : xh_is ci h a = some u) (h1 : mc ≤ bc) (h2 : ms ≤ bs) (hr : xm_Run g M' d' [.ref a, a1, a2, a3, a4, a5, a6] h mc ms (fun v h' => v = none ∧ Qf h') xm_no) (k : ∀ h', Qf h' → xm_W g Γ n ls st h' (bc - mc) (bs - ms)) : xm_W g Γ pc ls (a6 :: a5 :: a4 :: a3 :: a2 :: a1 :: va_rf o :: st) h bc bs := by
  subst ho
  obtain ⟨w, fs, q⟩ := xh_is_s hc
  refine xm_use hi ⟨hs, w, fs, mc, ms, q, ⟨h1, h2⟩, ?_⟩
  exact xm_Run.mono hr (fun v h' q => by
    obtain ⟨rfl, q⟩ := q
    exact k h' q) (fun E q h' x => x)
theorem xw_tXsu6 {M' : xm_M} {d' mc ms : Nat} {X : xm_X} {Qf : xm_H → Prop} {a1 a2 a3 a4 a5 a6 : Value} (hi : xm_Imp g Γ pc (xi_invX g M' d' 6 n X)) (hs : xm_stk 6 (a6 :: a5 :: a4 :: a3 :: a2 :: a1 :: st) = true) (h1 : mc ≤ bc) (h2 : ms ≤ bs) (hr : xm_Run g M' d' [a1, a2, a3, a4, a5, a6] h mc ms (fun v h' => v = none ∧ Qf h') X) (k : ∀ h', Qf h' → xm_W g Γ n ls st h' (bc - mc) (bs - ms)) : xm_W g Γ pc ls (a6 :: a5 :: a4 :: a3 :: a2 :: a1 :: st) h bc bs := by
  refine xm_use hi ⟨hs, mc, ms, ⟨h1, h2⟩, ?_⟩
  exact xm_Run.mono hr (fun v h' q => by
    obtain ⟨rfl, q⟩ := q
    exact k h' q) (fun E q h' x => x)
theorem xw_tXvu6 {ci : Nat} {M' : xm_M} {d' mc ms : Nat} {X : xm_X} {Qf : xm_H → Prop} {a1 a2 a3 a4 a5 a6 : Value} {u : Unit} (hi : xm_Imp g Γ pc (xi_virX g ci M' d' 6 n X)) (hs : xm_stk 6 (a6 :: a5 :: a4 :: a3 :: a2 :: a1 :: va_rf o :: st) = true) (ho : o = some a) (hc : xh_is ci h a = some u) (h1 : mc ≤ bc) (h2 : ms ≤ bs) (hr : xm_Run g M' d' [.ref a, a1, a2, a3, a4, a5, a6] h mc ms (fun v h' => v = none ∧ Qf h') X) (k : ∀ h', Qf h' → xm_W g Γ n ls st h' (bc - mc) (bs - ms)) : xm_W g Γ pc ls (a6 :: a5 :: a4 :: a3 :: a2 :: a1 :: va_rf o :: st) h bc bs := by
  subst ho
  obtain ⟨w, fs, q⟩ := xh_is_s hc
  refine xm_use hi ⟨hs, w, fs, mc, ms, q, ⟨h1, h2⟩, ?_⟩
  exact xm_Run.mono hr (fun v h' q => by
    obtain ⟨rfl, q⟩ := q
    exact k h' q) (fun E q h' x => x)
theorem xw_tHvu6 {ci : Nat} {M' : xm_M} {d' mc ms : Nat} {XH : xm_X} {hs0 : List (String × Nat)} {Qf : xm_H → Prop} {a1 a2 a3 a4 a5 a6 : Value} {u : Unit} (hi : xm_Imp g Γ pc (xi_virH g ci M' d' 6 n hs0)) (hs : xm_stk 6 (a6 :: a5 :: a4 :: a3 :: a2 :: a1 :: va_rf o :: st) = true) (ho : o = some a) (hc : xh_is ci h a = some u) (h1 : mc ≤ bc) (h2 : ms ≤ bs) (hr : xm_Run g M' d' [.ref a, a1, a2, a3, a4, a5, a6] h mc ms (fun v h' => v = none ∧ Qf h') XH) (k : ∀ h', Qf h' → xm_W g Γ n ls st h' (bc - mc) (bs - ms)) (kx : ∀ E q h', XH E q h' → xm_hnd hs0 E (fun t => xm_W g Γ t ls [.ref q] h' (bc - mc) (bs - ms))) : xm_W g Γ pc ls (a6 :: a5 :: a4 :: a3 :: a2 :: a1 :: va_rf o :: st) h bc bs := by
  subst ho
  obtain ⟨w, fs, q⟩ := xh_is_s hc
  refine xm_use hi ⟨hs, w, fs, mc, ms, q, ⟨h1, h2⟩, ?_⟩
  exact xm_Run.mono hr (fun v h' q => by
    obtain ⟨rfl, q⟩ := q
    exact k h' q) kx
theorem xw_tpu6 {M' : xm_M} {d' mc ms : Nat} {Qf : xm_H → Prop} {a1 a2 a3 a4 a5 a6 : Value} (hi : xm_Imp g Γ pc (xi_spe g M' d' 6 n)) (hs : xm_stk 6 (a6 :: a5 :: a4 :: a3 :: a2 :: a1 :: va_rf o :: st) = true) (ho : o = some a) (h1 : mc ≤ bc) (h2 : ms ≤ bs) (hr : xm_Run g M' d' [.ref a, a1, a2, a3, a4, a5, a6] h mc ms (fun v h' => v = none ∧ Qf h') xm_no) (k : ∀ h', Qf h' → xm_W g Γ n ls st h' (bc - mc) (bs - ms)) : xm_W g Γ pc ls (a6 :: a5 :: a4 :: a3 :: a2 :: a1 :: va_rf o :: st) h bc bs := by
  subst ho
  refine xm_use hi ⟨hs, mc, ms, ⟨h1, h2⟩, ?_⟩
  exact xm_Run.mono hr (fun v h' q => by
    obtain ⟨rfl, q⟩ := q
    exact k h' q) (fun E q h' x => x)
theorem xw_hv7 {ci : Nat} {M' : xm_M} {d' : Nat} {h' : xm_H} {a1 a2 a3 a4 a5 a6 a7 : Value} {r : Value} {u : Unit} (hi : xm_Imp g Γ pc (xi_vir g ci M' d' 7 n)) (hs : xm_stk 7 (a7 :: a6 :: a5 :: a4 :: a3 :: a2 :: a1 :: va_rf o :: st) = true) (ho : o = some a) (hc : xh_is ci h a = some u) (hr : ∀ (Q : xm_P) (X : xm_X), Q (some r) h' → xm_Run g M' d' [.ref a, a1, a2, a3, a4, a5, a6, a7] h 0 0 Q X) (k : xm_W g Γ n ls (r :: st) h' bc bs) : xm_W g Γ pc ls (a7 :: a6 :: a5 :: a4 :: a3 :: a2 :: a1 :: va_rf o :: st) h bc bs := by
  subst ho
  obtain ⟨w, fs, q⟩ := xh_is_s hc
  exact xm_use hi ⟨hs, w, fs, 0, 0, q, ⟨Nat.zero_le _, Nat.zero_le _⟩, hr _ _ k⟩
theorem xw_pv7 {M' : xm_M} {d' : Nat} {h' : xm_H} {a1 a2 a3 a4 a5 a6 a7 : Value} {r : Value} (hi : xm_Imp g Γ pc (xi_spe g M' d' 7 n)) (hs : xm_stk 7 (a7 :: a6 :: a5 :: a4 :: a3 :: a2 :: a1 :: va_rf o :: st) = true) (ho : o = some a) (hr : ∀ (Q : xm_P) (X : xm_X), Q (some r) h' → xm_Run g M' d' [.ref a, a1, a2, a3, a4, a5, a6, a7] h 0 0 Q X) (k : xm_W g Γ n ls (r :: st) h' bc bs) : xm_W g Γ pc ls (a7 :: a6 :: a5 :: a4 :: a3 :: a2 :: a1 :: va_rf o :: st) h bc bs := by
  subst ho
  exact xm_use hi ⟨hs, 0, 0, ⟨Nat.zero_le _, Nat.zero_le _⟩, hr _ _ k⟩
theorem xw_hu7 {ci : Nat} {M' : xm_M} {d' : Nat} {h' : xm_H} {a1 a2 a3 a4 a5 a6 a7 : Value} {u : Unit} (hi : xm_Imp g Γ pc (xi_vir g ci M' d' 7 n)) (hs : xm_stk 7 (a7 :: a6 :: a5 :: a4 :: a3 :: a2 :: a1 :: va_rf o :: st) = true) (ho : o = some a) (hc : xh_is ci h a = some u) (hr : ∀ (Q : xm_P) (X : xm_X), Q (none) h' → xm_Run g M' d' [.ref a, a1, a2, a3, a4, a5, a6, a7] h 0 0 Q X) (k : xm_W g Γ n ls (st) h' bc bs) : xm_W g Γ pc ls (a7 :: a6 :: a5 :: a4 :: a3 :: a2 :: a1 :: va_rf o :: st) h bc bs := by
  subst ho
  obtain ⟨w, fs, q⟩ := xh_is_s hc
  exact xm_use hi ⟨hs, w, fs, 0, 0, q, ⟨Nat.zero_le _, Nat.zero_le _⟩, hr _ _ k⟩
theorem xw_pu7 {M' : xm_M} {d' : Nat} {h' : xm_H} {a1 a2 a3 a4 a5 a6 a7 : Value} (hi : xm_Imp g Γ pc (xi_spe g M' d' 7 n)) (hs : xm_stk 7 (a7 :: a6 :: a5 :: a4 :: a3 :: a2 :: a1 :: va_rf o :: st) = true) (ho : o = some a) (hr : ∀ (Q : xm_P) (X : xm_X), Q (none) h' → xm_Run g M' d' [.ref a, a1, a2, a3, a4, a5, a6, a7] h 0 0 Q X) (k : xm_W g Γ n ls (st) h' bc bs) : xm_W g Γ pc ls (a7 :: a6 :: a5 :: a4 :: a3 :: a2 :: a1 :: va_rf o :: st) h bc bs := by
  subst ho
  exact xm_use hi ⟨hs, 0, 0, ⟨Nat.zero_le _, Nat.zero_le _⟩, hr _ _ k⟩
theorem xw_tsi7 {M' : xm_M} {d' mc ms : Nat} {Qf : Int32 → xm_H → Prop} {a1 a2 a3 a4 a5 a6 a7 : Value} (hi : xm_Imp g Γ pc (xi_inv g M' d' 7 n)) (hs : xm_stk 7 (a7 :: a6 :: a5 :: a4 :: a3 :: a2 :: a1 :: st) = true) (h1 : mc ≤ bc) (h2 : ms ≤ bs) (hr : xm_Run g M' d' [a1, a2, a3, a4, a5, a6, a7] h mc ms (fun v h' => ∃ r, v = some (.int r) ∧ Qf r h') xm_no) (k : ∀ r h', Qf r h' → xm_W g Γ n ls (.int r :: st) h' (bc - mc) (bs - ms)) : xm_W g Γ pc ls (a7 :: a6 :: a5 :: a4 :: a3 :: a2 :: a1 :: st) h bc bs := by
  refine xm_use hi ⟨hs, mc, ms, ⟨h1, h2⟩, ?_⟩
  exact xm_Run.mono hr (fun v h' q => by
    obtain ⟨r, rfl, q⟩ := q
    exact k r h' q) (fun E q h' x => x)
theorem xw_tvi7 {ci : Nat} {M' : xm_M} {d' mc ms : Nat} {Qf : Int32 → xm_H → Prop} {a1 a2 a3 a4 a5 a6 a7 : Value} {u : Unit} (hi : xm_Imp g Γ pc (xi_vir g ci M' d' 7 n)) (hs : xm_stk 7 (a7 :: a6 :: a5 :: a4 :: a3 :: a2 :: a1 :: va_rf o :: st) = true) (ho : o = some a) (hc : xh_is ci h a = some u) (h1 : mc ≤ bc) (h2 : ms ≤ bs) (hr : xm_Run g M' d' [.ref a, a1, a2, a3, a4, a5, a6, a7] h mc ms (fun v h' => ∃ r, v = some (.int r) ∧ Qf r h') xm_no) (k : ∀ r h', Qf r h' → xm_W g Γ n ls (.int r :: st) h' (bc - mc) (bs - ms)) : xm_W g Γ pc ls (a7 :: a6 :: a5 :: a4 :: a3 :: a2 :: a1 :: va_rf o :: st) h bc bs := by
  subst ho
  obtain ⟨w, fs, q⟩ := xh_is_s hc
  refine xm_use hi ⟨hs, w, fs, mc, ms, q, ⟨h1, h2⟩, ?_⟩
  exact xm_Run.mono hr (fun v h' q => by
    obtain ⟨r, rfl, q⟩ := q
    exact k r h' q) (fun E q h' x => x)
theorem xw_tXsi7 {M' : xm_M} {d' mc ms : Nat} {X : xm_X} {Qf : Int32 → xm_H → Prop} {a1 a2 a3 a4 a5 a6 a7 : Value} (hi : xm_Imp g Γ pc (xi_invX g M' d' 7 n X)) (hs : xm_stk 7 (a7 :: a6 :: a5 :: a4 :: a3 :: a2 :: a1 :: st) = true) (h1 : mc ≤ bc) (h2 : ms ≤ bs) (hr : xm_Run g M' d' [a1, a2, a3, a4, a5, a6, a7] h mc ms (fun v h' => ∃ r, v = some (.int r) ∧ Qf r h') X) (k : ∀ r h', Qf r h' → xm_W g Γ n ls (.int r :: st) h' (bc - mc) (bs - ms)) : xm_W g Γ pc ls (a7 :: a6 :: a5 :: a4 :: a3 :: a2 :: a1 :: st) h bc bs := by
  refine xm_use hi ⟨hs, mc, ms, ⟨h1, h2⟩, ?_⟩
  exact xm_Run.mono hr (fun v h' q => by
    obtain ⟨r, rfl, q⟩ := q
    exact k r h' q) (fun E q h' x => x)
theorem xw_tXvi7 {ci : Nat} {M' : xm_M} {d' mc ms : Nat} {X : xm_X} {Qf : Int32 → xm_H → Prop} {a1 a2 a3 a4 a5 a6 a7 : Value} {u : Unit} (hi : xm_Imp g Γ pc (xi_virX g ci M' d' 7 n X)) (hs : xm_stk 7 (a7 :: a6 :: a5 :: a4 :: a3 :: a2 :: a1 :: va_rf o :: st) = true) (ho : o = some a) (hc : xh_is ci h a = some u) (h1 : mc ≤ bc) (h2 : ms ≤ bs) (hr : xm_Run g M' d' [.ref a, a1, a2, a3, a4, a5, a6, a7] h mc ms (fun v h' => ∃ r, v = some (.int r) ∧ Qf r h') X) (k : ∀ r h', Qf r h' → xm_W g Γ n ls (.int r :: st) h' (bc - mc) (bs - ms)) : xm_W g Γ pc ls (a7 :: a6 :: a5 :: a4 :: a3 :: a2 :: a1 :: va_rf o :: st) h bc bs := by
  subst ho
  obtain ⟨w, fs, q⟩ := xh_is_s hc
  refine xm_use hi ⟨hs, w, fs, mc, ms, q, ⟨h1, h2⟩, ?_⟩
  exact xm_Run.mono hr (fun v h' q => by
    obtain ⟨r, rfl, q⟩ := q
    exact k r h' q) (fun E q h' x => x)
theorem xw_tHvi7 {ci : Nat} {M' : xm_M} {d' mc ms : Nat} {XH : xm_X} {hs0 : List (String × Nat)} {Qf : Int32 → xm_H → Prop} {a1 a2 a3 a4 a5 a6 a7 : Value} {u : Unit} (hi : xm_Imp g Γ pc (xi_virH g ci M' d' 7 n hs0)) (hs : xm_stk 7 (a7 :: a6 :: a5 :: a4 :: a3 :: a2 :: a1 :: va_rf o :: st) = true) (ho : o = some a) (hc : xh_is ci h a = some u) (h1 : mc ≤ bc) (h2 : ms ≤ bs) (hr : xm_Run g M' d' [.ref a, a1, a2, a3, a4, a5, a6, a7] h mc ms (fun v h' => ∃ r, v = some (.int r) ∧ Qf r h') XH) (k : ∀ r h', Qf r h' → xm_W g Γ n ls (.int r :: st) h' (bc - mc) (bs - ms)) (kx : ∀ E q h', XH E q h' → xm_hnd hs0 E (fun t => xm_W g Γ t ls [.ref q] h' (bc - mc) (bs - ms))) : xm_W g Γ pc ls (a7 :: a6 :: a5 :: a4 :: a3 :: a2 :: a1 :: va_rf o :: st) h bc bs := by
  subst ho
  obtain ⟨w, fs, q⟩ := xh_is_s hc
  refine xm_use hi ⟨hs, w, fs, mc, ms, q, ⟨h1, h2⟩, ?_⟩
  exact xm_Run.mono hr (fun v h' q => by
    obtain ⟨r, rfl, q⟩ := q
    exact k r h' q) kx
theorem xw_tpi7 {M' : xm_M} {d' mc ms : Nat} {Qf : Int32 → xm_H → Prop} {a1 a2 a3 a4 a5 a6 a7 : Value} (hi : xm_Imp g Γ pc (xi_spe g M' d' 7 n)) (hs : xm_stk 7 (a7 :: a6 :: a5 :: a4 :: a3 :: a2 :: a1 :: va_rf o :: st) = true) (ho : o = some a) (h1 : mc ≤ bc) (h2 : ms ≤ bs) (hr : xm_Run g M' d' [.ref a, a1, a2, a3, a4, a5, a6, a7] h mc ms (fun v h' => ∃ r, v = some (.int r) ∧ Qf r h') xm_no) (k : ∀ r h', Qf r h' → xm_W g Γ n ls (.int r :: st) h' (bc - mc) (bs - ms)) : xm_W g Γ pc ls (a7 :: a6 :: a5 :: a4 :: a3 :: a2 :: a1 :: va_rf o :: st) h bc bs := by
  subst ho
  refine xm_use hi ⟨hs, mc, ms, ⟨h1, h2⟩, ?_⟩
  exact xm_Run.mono hr (fun v h' q => by
    obtain ⟨r, rfl, q⟩ := q
    exact k r h' q) (fun E q h' x => x)
theorem xw_tsl7 {M' : xm_M} {d' mc ms : Nat} {Qf : Int64 → xm_H → Prop} {a1 a2 a3 a4 a5 a6 a7 : Value} (hi : xm_Imp g Γ pc (xi_inv g M' d' 7 n)) (hs : xm_stk 7 (a7 :: a6 :: a5 :: a4 :: a3 :: a2 :: a1 :: st) = true) (h1 : mc ≤ bc) (h2 : ms ≤ bs) (hr : xm_Run g M' d' [a1, a2, a3, a4, a5, a6, a7] h mc ms (fun v h' => ∃ r, v = some (.long r) ∧ Qf r h') xm_no) (k : ∀ r h', Qf r h' → xm_W g Γ n ls (.long r :: st) h' (bc - mc) (bs - ms)) : xm_W g Γ pc ls (a7 :: a6 :: a5 :: a4 :: a3 :: a2 :: a1 :: st) h bc bs := by
  refine xm_use hi ⟨hs, mc, ms, ⟨h1, h2⟩, ?_⟩
  exact xm_Run.mono hr (fun v h' q => by
    obtain ⟨r, rfl, q⟩ := q
    exact k r h' q) (fun E q h' x => x)
theorem xw_tvl7 {ci : Nat} {M' : xm_M} {d' mc ms : Nat} {Qf : Int64 → xm_H → Prop} {a1 a2 a3 a4 a5 a6 a7 : Value} {u : Unit} (hi : xm_Imp g Γ pc (xi_vir g ci M' d' 7 n)) (hs : xm_stk 7 (a7 :: a6 :: a5 :: a4 :: a3 :: a2 :: a1 :: va_rf o :: st) = true) (ho : o = some a) (hc : xh_is ci h a = some u) (h1 : mc ≤ bc) (h2 : ms ≤ bs) (hr : xm_Run g M' d' [.ref a, a1, a2, a3, a4, a5, a6, a7] h mc ms (fun v h' => ∃ r, v = some (.long r) ∧ Qf r h') xm_no) (k : ∀ r h', Qf r h' → xm_W g Γ n ls (.long r :: st) h' (bc - mc) (bs - ms)) : xm_W g Γ pc ls (a7 :: a6 :: a5 :: a4 :: a3 :: a2 :: a1 :: va_rf o :: st) h bc bs := by
  subst ho
  obtain ⟨w, fs, q⟩ := xh_is_s hc
  refine xm_use hi ⟨hs, w, fs, mc, ms, q, ⟨h1, h2⟩, ?_⟩
  exact xm_Run.mono hr (fun v h' q => by
    obtain ⟨r, rfl, q⟩ := q
    exact k r h' q) (fun E q h' x => x)
theorem xw_tXsl7 {M' : xm_M} {d' mc ms : Nat} {X : xm_X} {Qf : Int64 → xm_H → Prop} {a1 a2 a3 a4 a5 a6 a7 : Value} (hi : xm_Imp g Γ pc (xi_invX g M' d' 7 n X)) (hs : xm_stk 7 (a7 :: a6 :: a5 :: a4 :: a3 :: a2 :: a1 :: st) = true) (h1 : mc ≤ bc) (h2 : ms ≤ bs) (hr : xm_Run g M' d' [a1, a2, a3, a4, a5, a6, a7] h mc ms (fun v h' => ∃ r, v = some (.long r) ∧ Qf r h') X) (k : ∀ r h', Qf r h' → xm_W g Γ n ls (.long r :: st) h' (bc - mc) (bs - ms)) : xm_W g Γ pc ls (a7 :: a6 :: a5 :: a4 :: a3 :: a2 :: a1 :: st) h bc bs := by
  refine xm_use hi ⟨hs, mc, ms, ⟨h1, h2⟩, ?_⟩
  exact xm_Run.mono hr (fun v h' q => by
    obtain ⟨r, rfl, q⟩ := q
    exact k r h' q) (fun E q h' x => x)
theorem xw_tXvl7 {ci : Nat} {M' : xm_M} {d' mc ms : Nat} {X : xm_X} {Qf : Int64 → xm_H → Prop} {a1 a2 a3 a4 a5 a6 a7 : Value} {u : Unit} (hi : xm_Imp g Γ pc (xi_virX g ci M' d' 7 n X)) (hs : xm_stk 7 (a7 :: a6 :: a5 :: a4 :: a3 :: a2 :: a1 :: va_rf o :: st) = true) (ho : o = some a) (hc : xh_is ci h a = some u) (h1 : mc ≤ bc) (h2 : ms ≤ bs) (hr : xm_Run g M' d' [.ref a, a1, a2, a3, a4, a5, a6, a7] h mc ms (fun v h' => ∃ r, v = some (.long r) ∧ Qf r h') X) (k : ∀ r h', Qf r h' → xm_W g Γ n ls (.long r :: st) h' (bc - mc) (bs - ms)) : xm_W g Γ pc ls (a7 :: a6 :: a5 :: a4 :: a3 :: a2 :: a1 :: va_rf o :: st) h bc bs := by
  subst ho
  obtain ⟨w, fs, q⟩ := xh_is_s hc
  refine xm_use hi ⟨hs, w, fs, mc, ms, q, ⟨h1, h2⟩, ?_⟩
  exact xm_Run.mono hr (fun v h' q => by
    obtain ⟨r, rfl, q⟩ := q
    exact k r h' q) (fun E q h' x => x)
theorem xw_tHvl7 {ci : Nat} {M' : xm_M} {d' mc ms : Nat} {XH : xm_X} {hs0 : List (String × Nat)} {Qf : Int64 → xm_H → Prop} {a1 a2 a3 a4 a5 a6 a7 : Value} {u : Unit} (hi : xm_Imp g Γ pc (xi_virH g ci M' d' 7 n hs0)) (hs : xm_stk 7 (a7 :: a6 :: a5 :: a4 :: a3 :: a2 :: a1 :: va_rf o :: st) = true) (ho : o = some a) (hc : xh_is ci h a = some u) (h1 : mc ≤ bc) (h2 : ms ≤ bs) (hr : xm_Run g M' d' [.ref a, a1, a2, a3, a4, a5, a6, a7] h mc ms (fun v h' => ∃ r, v = some (.long r) ∧ Qf r h') XH) (k : ∀ r h', Qf r h' → xm_W g Γ n ls (.long r :: st) h' (bc - mc) (bs - ms)) (kx : ∀ E q h', XH E q h' → xm_hnd hs0 E (fun t => xm_W g Γ t ls [.ref q] h' (bc - mc) (bs - ms))) : xm_W g Γ pc ls (a7 :: a6 :: a5 :: a4 :: a3 :: a2 :: a1 :: va_rf o :: st) h bc bs := by
  subst ho
  obtain ⟨w, fs, q⟩ := xh_is_s hc
  refine xm_use hi ⟨hs, w, fs, mc, ms, q, ⟨h1, h2⟩, ?_⟩
  exact xm_Run.mono hr (fun v h' q => by
    obtain ⟨r, rfl, q⟩ := q
    exact k r h' q) kx
theorem xw_tpl7 {M' : xm_M} {d' mc ms : Nat} {Qf : Int64 → xm_H → Prop} {a1 a2 a3 a4 a5 a6 a7 : Value} (hi : xm_Imp g Γ pc (xi_spe g M' d' 7 n)) (hs : xm_stk 7 (a7 :: a6 :: a5 :: a4 :: a3 :: a2 :: a1 :: va_rf o :: st) = true) (ho : o = some a) (h1 : mc ≤ bc) (h2 : ms ≤ bs) (hr : xm_Run g M' d' [.ref a, a1, a2, a3, a4, a5, a6, a7] h mc ms (fun v h' => ∃ r, v = some (.long r) ∧ Qf r h') xm_no) (k : ∀ r h', Qf r h' → xm_W g Γ n ls (.long r :: st) h' (bc - mc) (bs - ms)) : xm_W g Γ pc ls (a7 :: a6 :: a5 :: a4 :: a3 :: a2 :: a1 :: va_rf o :: st) h bc bs := by
  subst ho
  refine xm_use hi ⟨hs, mc, ms, ⟨h1, h2⟩, ?_⟩
  exact xm_Run.mono hr (fun v h' q => by
    obtain ⟨r, rfl, q⟩ := q
    exact k r h' q) (fun E q h' x => x)
theorem xw_tsf7 {M' : xm_M} {d' mc ms : Nat} {Qf : UInt32 → xm_H → Prop} {a1 a2 a3 a4 a5 a6 a7 : Value} (hi : xm_Imp g Γ pc (xi_inv g M' d' 7 n)) (hs : xm_stk 7 (a7 :: a6 :: a5 :: a4 :: a3 :: a2 :: a1 :: st) = true) (h1 : mc ≤ bc) (h2 : ms ≤ bs) (hr : xm_Run g M' d' [a1, a2, a3, a4, a5, a6, a7] h mc ms (fun v h' => ∃ r, v = some (.float r) ∧ Qf r h') xm_no) (k : ∀ r h', Qf r h' → xm_W g Γ n ls (.float r :: st) h' (bc - mc) (bs - ms)) : xm_W g Γ pc ls (a7 :: a6 :: a5 :: a4 :: a3 :: a2 :: a1 :: st) h bc bs := by
  refine xm_use hi ⟨hs, mc, ms, ⟨h1, h2⟩, ?_⟩
  exact xm_Run.mono hr (fun v h' q => by
    obtain ⟨r, rfl, q⟩ := q
    exact k r h' q) (fun E q h' x => x)
theorem xw_tvf7 {ci : Nat} {M' : xm_M} {d' mc ms : Nat} {Qf : UInt32 → xm_H → Prop} {a1 a2 a3 a4 a5 a6 a7 : Value} {u : Unit} (hi : xm_Imp g Γ pc (xi_vir g ci M' d' 7 n)) (hs : xm_stk 7 (a7 :: a6 :: a5 :: a4 :: a3 :: a2 :: a1 :: va_rf o :: st) = true) (ho : o = some a) (hc : xh_is ci h a = some u) (h1 : mc ≤ bc) (h2 : ms ≤ bs) (hr : xm_Run g M' d' [.ref a, a1, a2, a3, a4, a5, a6, a7] h mc ms (fun v h' => ∃ r, v = some (.float r) ∧ Qf r h') xm_no) (k : ∀ r h', Qf r h' → xm_W g Γ n ls (.float r :: st) h' (bc - mc) (bs - ms)) : xm_W g Γ pc ls (a7 :: a6 :: a5 :: a4 :: a3 :: a2 :: a1 :: va_rf o :: st) h bc bs := by
  subst ho
  obtain ⟨w, fs, q⟩ := xh_is_s hc
  refine xm_use hi ⟨hs, w, fs, mc, ms, q, ⟨h1, h2⟩, ?_⟩
  exact xm_Run.mono hr (fun v h' q => by
    obtain ⟨r, rfl, q⟩ := q
    exact k r h' q) (fun E q h' x => x)
theorem xw_tXsf7 {M' : xm_M} {d' mc ms : Nat} {X : xm_X} {Qf : UInt32 → xm_H → Prop} {a1 a2 a3 a4 a5 a6 a7 : Value} (hi : xm_Imp g Γ pc (xi_invX g M' d' 7 n X)) (hs : xm_stk 7 (a7 :: a6 :: a5 :: a4 :: a3 :: a2 :: a1 :: st) = true) (h1 : mc ≤ bc) (h2 : ms ≤ bs) (hr : xm_Run g M' d' [a1, a2, a3, a4, a5, a6, a7] h mc ms (fun v h' => ∃ r, v = some (.float r) ∧ Qf r h') X) (k : ∀ r h', Qf r h' → xm_W g Γ n ls (.float r :: st) h' (bc - mc) (bs - ms)) : xm_W g Γ pc ls (a7 :: a6 :: a5 :: a4 :: a3 :: a2 :: a1 :: st) h bc bs := by
  refine xm_use hi ⟨hs, mc, ms, ⟨h1, h2⟩, ?_⟩
  exact xm_Run.mono hr (fun v h' q => by
    obtain ⟨r, rfl, q⟩ := q
    exact k r h' q) (fun E q h' x => x)
theorem xw_tXvf7 {ci : Nat} {M' : xm_M} {d' mc ms : Nat} {X : xm_X} {Qf : UInt32 → xm_H → Prop} {a1 a2 a3 a4 a5 a6 a7 : Value} {u : Unit} (hi : xm_Imp g Γ pc (xi_virX g ci M' d' 7 n X)) (hs : xm_stk 7 (a7 :: a6 :: a5 :: a4 :: a3 :: a2 :: a1 :: va_rf o :: st) = true) (ho : o = some a) (hc : xh_is ci h a = some u) (h1 : mc ≤ bc) (h2 : ms ≤ bs) (hr : xm_Run g M' d' [.ref a, a1, a2, a3, a4, a5, a6, a7] h mc ms (fun v h' => ∃ r, v = some (.float r) ∧ Qf r h') X) (k : ∀ r h', Qf r h' → xm_W g Γ n ls (.float r :: st) h' (bc - mc) (bs - ms)) : xm_W g Γ pc ls (a7 :: a6 :: a5 :: a4 :: a3 :: a2 :: a1 :: va_rf o :: st) h bc bs := by
  subst ho
  obtain ⟨w, fs, q⟩ := xh_is_s hc
  refine xm_use hi ⟨hs, w, fs, mc, ms, q, ⟨h1, h2⟩, ?_⟩
  exact xm_Run.mono hr (fun v h' q => by
    obtain ⟨r, rfl, q⟩ := q
    exact k r h' q) (fun E q h' x => x)
theorem xw_tHvf7 {ci : Nat} {M' : xm_M} {d' mc ms : Nat} {XH : xm_X} {hs0 : List (String × Nat)} {Qf : UInt32 → xm_H → Prop} {a1 a2 a3 a4 a5 a6 a7 : Value} {u : Unit} (hi : xm_Imp g Γ pc (xi_virH g ci M' d' 7 n hs0)) (hs : xm_stk 7 (a7 :: a6 :: a5 :: a4 :: a3 :: a2 :: a1 :: va_rf o :: st) = true) (ho : o = some a) (hc : xh_is ci h a = some u) (h1 : mc ≤ bc) (h2 : ms ≤ bs) (hr : xm_Run g M' d' [.ref a, a1, a2, a3, a4, a5, a6, a7] h mc ms (fun v h' => ∃ r, v = some (.float r) ∧ Qf r h') XH) (k : ∀ r h', Qf r h' → xm_W g Γ n ls (.float r :: st) h' (bc - mc) (bs - ms)) (kx : ∀ E q h', XH E q h' → xm_hnd hs0 E (fun t => xm_W g Γ t ls [.ref q] h' (bc - mc) (bs - ms))) : xm_W g Γ pc ls (a7 :: a6 :: a5 :: a4 :: a3 :: a2 :: a1 :: va_rf o :: st) h bc bs := by
  subst ho
  obtain ⟨w, fs, q⟩ := xh_is_s hc
  refine xm_use hi ⟨hs, w, fs, mc, ms, q, ⟨h1, h2⟩, ?_⟩
  exact xm_Run.mono hr (fun v h' q => by
    obtain ⟨r, rfl, q⟩ := q
    exact k r h' q) kx
theorem xw_tpf7 {M' : xm_M} {d' mc ms : Nat} {Qf : UInt32 → xm_H → Prop} {a1 a2 a3 a4 a5 a6 a7 : Value} (hi : xm_Imp g Γ pc (xi_spe g M' d' 7 n)) (hs : xm_stk 7 (a7 :: a6 :: a5 :: a4 :: a3 :: a2 :: a1 :: va_rf o :: st) = true) (ho : o = some a) (h1 : mc ≤ bc) (h2 : ms ≤ bs) (hr : xm_Run g M' d' [.ref a, a1, a2, a3, a4, a5, a6, a7] h mc ms (fun v h' => ∃ r, v = some (.float r) ∧ Qf r h') xm_no) (k : ∀ r h', Qf r h' → xm_W g Γ n ls (.float r :: st) h' (bc - mc) (bs - ms)) : xm_W g Γ pc ls (a7 :: a6 :: a5 :: a4 :: a3 :: a2 :: a1 :: va_rf o :: st) h bc bs := by
  subst ho
  refine xm_use hi ⟨hs, mc, ms, ⟨h1, h2⟩, ?_⟩
  exact xm_Run.mono hr (fun v h' q => by
    obtain ⟨r, rfl, q⟩ := q
    exact k r h' q) (fun E q h' x => x)
theorem xw_tsd7 {M' : xm_M} {d' mc ms : Nat} {Qf : UInt64 → xm_H → Prop} {a1 a2 a3 a4 a5 a6 a7 : Value} (hi : xm_Imp g Γ pc (xi_inv g M' d' 7 n)) (hs : xm_stk 7 (a7 :: a6 :: a5 :: a4 :: a3 :: a2 :: a1 :: st) = true) (h1 : mc ≤ bc) (h2 : ms ≤ bs) (hr : xm_Run g M' d' [a1, a2, a3, a4, a5, a6, a7] h mc ms (fun v h' => ∃ r, v = some (.double r) ∧ Qf r h') xm_no) (k : ∀ r h', Qf r h' → xm_W g Γ n ls (.double r :: st) h' (bc - mc) (bs - ms)) : xm_W g Γ pc ls (a7 :: a6 :: a5 :: a4 :: a3 :: a2 :: a1 :: st) h bc bs := by
  refine xm_use hi ⟨hs, mc, ms, ⟨h1, h2⟩, ?_⟩
  exact xm_Run.mono hr (fun v h' q => by
    obtain ⟨r, rfl, q⟩ := q
    exact k r h' q) (fun E q h' x => x)
theorem xw_tvd7 {ci : Nat} {M' : xm_M} {d' mc ms : Nat} {Qf : UInt64 → xm_H → Prop} {a1 a2 a3 a4 a5 a6 a7 : Value} {u : Unit} (hi : xm_Imp g Γ pc (xi_vir g ci M' d' 7 n)) (hs : xm_stk 7 (a7 :: a6 :: a5 :: a4 :: a3 :: a2 :: a1 :: va_rf o :: st) = true) (ho : o = some a) (hc : xh_is ci h a = some u) (h1 : mc ≤ bc) (h2 : ms ≤ bs) (hr : xm_Run g M' d' [.ref a, a1, a2, a3, a4, a5, a6, a7] h mc ms (fun v h' => ∃ r, v = some (.double r) ∧ Qf r h') xm_no) (k : ∀ r h', Qf r h' → xm_W g Γ n ls (.double r :: st) h' (bc - mc) (bs - ms)) : xm_W g Γ pc ls (a7 :: a6 :: a5 :: a4 :: a3 :: a2 :: a1 :: va_rf o :: st) h bc bs := by
  subst ho
  obtain ⟨w, fs, q⟩ := xh_is_s hc
  refine xm_use hi ⟨hs, w, fs, mc, ms, q, ⟨h1, h2⟩, ?_⟩
  exact xm_Run.mono hr (fun v h' q => by
    obtain ⟨r, rfl, q⟩ := q
    exact k r h' q) (fun E q h' x => x)
theorem xw_tXsd7 {M' : xm_M} {d' mc ms : Nat} {X : xm_X} {Qf : UInt64 → xm_H → Prop} {a1 a2 a3 a4 a5 a6 a7 : Value} (hi : xm_Imp g Γ pc (xi_invX g M' d' 7 n X)) (hs : xm_stk 7 (a7 :: a6 :: a5 :: a4 :: a3 :: a2 :: a1 :: st) = true) (h1 : mc ≤ bc) (h2 : ms ≤ bs) (hr : xm_Run g M' d' [a1, a2, a3, a4, a5, a6, a7] h mc ms (fun v h' => ∃ r, v = some (.double r) ∧ Qf r h') X) (k : ∀ r h', Qf r h' → xm_W g Γ n ls (.double r :: st) h' (bc - mc) (bs - ms)) : xm_W g Γ pc ls (a7 :: a6 :: a5 :: a4 :: a3 :: a2 :: a1 :: st) h bc bs := by
  refine xm_use hi ⟨hs, mc, ms, ⟨h1, h2⟩, ?_⟩
  exact xm_Run.mono hr (fun v h' q => by
    obtain ⟨r, rfl, q⟩ := q
    exact k r h' q) (fun E q h' x => x)
theorem xw_tXvd7 {ci : Nat} {M' : xm_M} {d' mc ms : Nat} {X : xm_X} {Qf : UInt64 → xm_H → Prop} {a1 a2 a3 a4 a5 a6 a7 : Value} {u : Unit} (hi : xm_Imp g Γ pc (xi_virX g ci M' d' 7 n X)) (hs : xm_stk 7 (a7 :: a6 :: a5 :: a4 :: a3 :: a2 :: a1 :: va_rf o :: st) = true) (ho : o = some a) (hc : xh_is ci h a = some u) (h1 : mc ≤ bc) (h2 : ms ≤ bs) (hr : xm_Run g M' d' [.ref a, a1, a2, a3, a4, a5, a6, a7] h mc ms (fun v h' => ∃ r, v = some (.double r) ∧ Qf r h') X) (k : ∀ r h', Qf r h' → xm_W g Γ n ls (.double r :: st) h' (bc - mc) (bs - ms)) : xm_W g Γ pc ls (a7 :: a6 :: a5 :: a4 :: a3 :: a2 :: a1 :: va_rf o :: st) h bc bs := by
  subst ho
  obtain ⟨w, fs, q⟩ := xh_is_s hc
  refine xm_use hi ⟨hs, w, fs, mc, ms, q, ⟨h1, h2⟩, ?_⟩
  exact xm_Run.mono hr (fun v h' q => by
    obtain ⟨r, rfl, q⟩ := q
    exact k r h' q) (fun E q h' x => x)
theorem xw_tHvd7 {ci : Nat} {M' : xm_M} {d' mc ms : Nat} {XH : xm_X} {hs0 : List (String × Nat)} {Qf : UInt64 → xm_H → Prop} {a1 a2 a3 a4 a5 a6 a7 : Value} {u : Unit} (hi : xm_Imp g Γ pc (xi_virH g ci M' d' 7 n hs0)) (hs : xm_stk 7 (a7 :: a6 :: a5 :: a4 :: a3 :: a2 :: a1 :: va_rf o :: st) = true) (ho : o = some a) (hc : xh_is ci h a = some u) (h1 : mc ≤ bc) (h2 : ms ≤ bs) (hr : xm_Run g M' d' [.ref a, a1, a2, a3, a4, a5, a6, a7] h mc ms (fun v h' => ∃ r, v = some (.double r) ∧ Qf r h') XH) (k : ∀ r h', Qf r h' → xm_W g Γ n ls (.double r :: st) h' (bc - mc) (bs - ms)) (kx : ∀ E q h', XH E q h' → xm_hnd hs0 E (fun t => xm_W g Γ t ls [.ref q] h' (bc - mc) (bs - ms))) : xm_W g Γ pc ls (a7 :: a6 :: a5 :: a4 :: a3 :: a2 :: a1 :: va_rf o :: st) h bc bs := by
  subst ho
  obtain ⟨w, fs, q⟩ := xh_is_s hc
  refine xm_use hi ⟨hs, w, fs, mc, ms, q, ⟨h1, h2⟩, ?_⟩
  exact xm_Run.mono hr (fun v h' q => by
    obtain ⟨r, rfl, q⟩ := q
    exact k r h' q) kx
theorem xw_tpd7 {M' : xm_M} {d' mc ms : Nat} {Qf : UInt64 → xm_H → Prop} {a1 a2 a3 a4 a5 a6 a7 : Value} (hi : xm_Imp g Γ pc (xi_spe g M' d' 7 n)) (hs : xm_stk 7 (a7 :: a6 :: a5 :: a4 :: a3 :: a2 :: a1 :: va_rf o :: st) = true) (ho : o = some a) (h1 : mc ≤ bc) (h2 : ms ≤ bs) (hr : xm_Run g M' d' [.ref a, a1, a2, a3, a4, a5, a6, a7] h mc ms (fun v h' => ∃ r, v = some (.double r) ∧ Qf r h') xm_no) (k : ∀ r h', Qf r h' → xm_W g Γ n ls (.double r :: st) h' (bc - mc) (bs - ms)) : xm_W g Γ pc ls (a7 :: a6 :: a5 :: a4 :: a3 :: a2 :: a1 :: va_rf o :: st) h bc bs := by
  subst ho
  refine xm_use hi ⟨hs, mc, ms, ⟨h1, h2⟩, ?_⟩
  exact xm_Run.mono hr (fun v h' q => by
    obtain ⟨r, rfl, q⟩ := q
    exact k r h' q) (fun E q h' x => x)
theorem xw_tsr7 {M' : xm_M} {d' mc ms : Nat} {Qf : Option Nat → xm_H → Prop} {a1 a2 a3 a4 a5 a6 a7 : Value} (hi : xm_Imp g Γ pc (xi_inv g M' d' 7 n)) (hs : xm_stk 7 (a7 :: a6 :: a5 :: a4 :: a3 :: a2 :: a1 :: st) = true) (h1 : mc ≤ bc) (h2 : ms ≤ bs) (hr : xm_Run g M' d' [a1, a2, a3, a4, a5, a6, a7] h mc ms (fun v h' => ∃ r, v = some (va_rf r) ∧ Qf r h') xm_no) (k : ∀ r h', Qf r h' → xm_W g Γ n ls (va_rf r :: st) h' (bc - mc) (bs - ms)) : xm_W g Γ pc ls (a7 :: a6 :: a5 :: a4 :: a3 :: a2 :: a1 :: st) h bc bs := by
  refine xm_use hi ⟨hs, mc, ms, ⟨h1, h2⟩, ?_⟩
  exact xm_Run.mono hr (fun v h' q => by
    obtain ⟨r, rfl, q⟩ := q
    exact k r h' q) (fun E q h' x => x)
theorem xw_tvr7 {ci : Nat} {M' : xm_M} {d' mc ms : Nat} {Qf : Option Nat → xm_H → Prop} {a1 a2 a3 a4 a5 a6 a7 : Value} {u : Unit} (hi : xm_Imp g Γ pc (xi_vir g ci M' d' 7 n)) (hs : xm_stk 7 (a7 :: a6 :: a5 :: a4 :: a3 :: a2 :: a1 :: va_rf o :: st) = true) (ho : o = some a) (hc : xh_is ci h a = some u) (h1 : mc ≤ bc) (h2 : ms ≤ bs) (hr : xm_Run g M' d' [.ref a, a1, a2, a3, a4, a5, a6, a7] h mc ms (fun v h' => ∃ r, v = some (va_rf r) ∧ Qf r h') xm_no) (k : ∀ r h', Qf r h' → xm_W g Γ n ls (va_rf r :: st) h' (bc - mc) (bs - ms)) : xm_W g Γ pc ls (a7 :: a6 :: a5 :: a4 :: a3 :: a2 :: a1 :: va_rf o :: st) h bc bs := by
  subst ho
  obtain ⟨w, fs, q⟩ := xh_is_s hc
  refine xm_use hi ⟨hs, w, fs, mc, ms, q, ⟨h1, h2⟩, ?_⟩
  exact xm_Run.mono hr (fun v h' q => by
    obtain ⟨r, rfl, q⟩ := q
    exact k r h' q) (fun E q h' x => x)
theorem xw_tXsr7 {M' : xm_M} {d' mc ms : Nat} {X : xm_X} {Qf : Option Nat → xm_H → Prop} {a1 a2 a3 a4 a5 a6 a7 : Value} (hi : xm_Imp g Γ pc (xi_invX g M' d' 7 n X)) (hs : xm_stk 7 (a7 :: a6 :: a5 :: a4 :: a3 :: a2 :: a1 :: st) = true) (h1 : mc ≤ bc) (h2 : ms ≤ bs) (hr : xm_Run g M' d' [a1, a2, a3, a4, a5, a6, a7] h mc ms (fun v h' => ∃ r, v = some (va_rf r) ∧ Qf r h') X) (k : ∀ r h', Qf r h' → xm_W g Γ n ls (va_rf r :: st) h' (bc - mc) (bs - ms)) : xm_W g Γ pc ls (a7 :: a6 :: a5 :: a4 :: a3 :: a2 :: a1 :: st) h bc bs := by
  refine xm_use hi ⟨hs, mc, ms, ⟨h1, h2⟩, ?_⟩
  exact xm_Run.mono hr (fun v h' q => by
    obtain ⟨r, rfl, q⟩ := q
    exact k r h' q) (fun E q h' x => x)
theorem xw_tXvr7 {ci : Nat} {M' : xm_M} {d' mc ms : Nat} {X : xm_X} {Qf : Option Nat → xm_H → Prop} {a1 a2 a3 a4 a5 a6 a7 : Value} {u : Unit} (hi : xm_Imp g Γ pc (xi_virX g ci M' d' 7 n X)) (hs : xm_stk 7 (a7 :: a6 :: a5 :: a4 :: a3 :: a2 :: a1 :: va_rf o :: st) = true) (ho : o = some a) (hc : xh_is ci h a = some u) (h1 : mc ≤ bc) (h2 : ms ≤ bs) (hr : xm_Run g M' d' [.ref a, a1, a2, a3, a4, a5, a6, a7] h mc ms (fun v h' => ∃ r, v = some (va_rf r) ∧ Qf r h') X) (k : ∀ r h', Qf r h' → xm_W g Γ n ls (va_rf r :: st) h' (bc - mc) (bs - ms)) : xm_W g Γ pc ls (a7 :: a6 :: a5 :: a4 :: a3 :: a2 :: a1 :: va_rf o :: st) h bc bs := by
  subst ho
  obtain ⟨w, fs, q⟩ := xh_is_s hc
  refine xm_use hi ⟨hs, w, fs, mc, ms, q, ⟨h1, h2⟩, ?_⟩
  exact xm_Run.mono hr (fun v h' q => by
    obtain ⟨r, rfl, q⟩ := q
    exact k r h' q) (fun E q h' x => x)
theorem xw_tHvr7 {ci : Nat} {M' : xm_M} {d' mc ms : Nat} {XH : xm_X} {hs0 : List (String × Nat)} {Qf : Option Nat → xm_H → Prop} {a1 a2 a3 a4 a5 a6 a7 : Value} {u : Unit} (hi : xm_Imp g Γ pc (xi_virH g ci M' d' 7 n hs0)) (hs : xm_stk 7 (a7 :: a6 :: a5 :: a4 :: a3 :: a2 :: a1 :: va_rf o :: st) = true) (ho : o = some a) (hc : xh_is ci h a = some u) (h1 : mc ≤ bc) (h2 : ms ≤ bs) (hr : xm_Run g M' d' [.ref a, a1, a2, a3, a4, a5, a6, a7] h mc ms (fun v h' => ∃ r, v = some (va_rf r) ∧ Qf r h') XH) (k : ∀ r h', Qf r h' → xm_W g Γ n ls (va_rf r :: st) h' (bc - mc) (bs - ms)) (kx : ∀ E q h', XH E q h' → xm_hnd hs0 E (fun t => xm_W g Γ t ls [.ref q] h' (bc - mc) (bs - ms))) : xm_W g Γ pc ls (a7 :: a6 :: a5 :: a4 :: a3 :: a2 :: a1 :: va_rf o :: st) h bc bs := by
  subst ho
  obtain ⟨w, fs, q⟩ := xh_is_s hc
  refine xm_use hi ⟨hs, w, fs, mc, ms, q, ⟨h1, h2⟩, ?_⟩
  exact xm_Run.mono hr (fun v h' q => by
    obtain ⟨r, rfl, q⟩ := q
    exact k r h' q) kx
theorem xw_tpr7 {M' : xm_M} {d' mc ms : Nat} {Qf : Option Nat → xm_H → Prop} {a1 a2 a3 a4 a5 a6 a7 : Value} (hi : xm_Imp g Γ pc (xi_spe g M' d' 7 n)) (hs : xm_stk 7 (a7 :: a6 :: a5 :: a4 :: a3 :: a2 :: a1 :: va_rf o :: st) = true) (ho : o = some a) (h1 : mc ≤ bc) (h2 : ms ≤ bs) (hr : xm_Run g M' d' [.ref a, a1, a2, a3, a4, a5, a6, a7] h mc ms (fun v h' => ∃ r, v = some (va_rf r) ∧ Qf r h') xm_no) (k : ∀ r h', Qf r h' → xm_W g Γ n ls (va_rf r :: st) h' (bc - mc) (bs - ms)) : xm_W g Γ pc ls (a7 :: a6 :: a5 :: a4 :: a3 :: a2 :: a1 :: va_rf o :: st) h bc bs := by
  subst ho
  refine xm_use hi ⟨hs, mc, ms, ⟨h1, h2⟩, ?_⟩
  exact xm_Run.mono hr (fun v h' q => by
    obtain ⟨r, rfl, q⟩ := q
    exact k r h' q) (fun E q h' x => x)
theorem xw_tsu7 {M' : xm_M} {d' mc ms : Nat} {Qf : xm_H → Prop} {a1 a2 a3 a4 a5 a6 a7 : Value} (hi : xm_Imp g Γ pc (xi_inv g M' d' 7 n)) (hs : xm_stk 7 (a7 :: a6 :: a5 :: a4 :: a3 :: a2 :: a1 :: st) = true) (h1 : mc ≤ bc) (h2 : ms ≤ bs) (hr : xm_Run g M' d' [a1, a2, a3, a4, a5, a6, a7] h mc ms (fun v h' => v = none ∧ Qf h') xm_no) (k : ∀ h', Qf h' → xm_W g Γ n ls st h' (bc - mc) (bs - ms)) : xm_W g Γ pc ls (a7 :: a6 :: a5 :: a4 :: a3 :: a2 :: a1 :: st) h bc bs := by
  refine xm_use hi ⟨hs, mc, ms, ⟨h1, h2⟩, ?_⟩
  exact xm_Run.mono hr (fun v h' q => by
    obtain ⟨rfl, q⟩ := q
    exact k h' q) (fun E q h' x => x)
theorem xw_tvu7 {ci : Nat} {M' : xm_M} {d' mc ms : Nat} {Qf : xm_H → Prop} {a1 a2 a3 a4 a5 a6 a7 : Value} {u : Unit} (hi : xm_Imp g Γ pc (xi_vir g ci M' d' 7 n)) (hs : xm_stk 7 (a7 :: a6 :: a5 :: a4 :: a3 :: a2 :: a1 :: va_rf o :: st) = true) (ho : o = some a) (hc : xh_is ci h a = some u) (h1 : mc ≤ bc) (h2 : ms ≤ bs) (hr : xm_Run g M' d' [.ref a, a1, a2, a3, a4, a5, a6, a7] h mc ms (fun v h' => v = none ∧ Qf h') xm_no) (k : ∀ h', Qf h' → xm_W g Γ n ls st h' (bc - mc) (bs - ms)) : xm_W g Γ pc ls (a7 :: a6 :: a5 :: a4 :: a3 :: a2 :: a1 :: va_rf o :: st) h bc bs := by
  subst ho
  obtain ⟨w, fs, q⟩ := xh_is_s hc
  refine xm_use hi ⟨hs, w, fs, mc, ms, q, ⟨h1, h2⟩, ?_⟩
  exact xm_Run.mono hr (fun v h' q => by
    obtain ⟨rfl, q⟩ := q
    exact k h' q) (fun E q h' x => x)
theorem xw_tXsu7 {M' : xm_M} {d' mc ms : Nat} {X : xm_X} {Qf : xm_H → Prop} {a1 a2 a3 a4 a5 a6 a7 : Value} (hi : xm_Imp g Γ pc (xi_invX g M' d' 7 n X)) (hs : xm_stk 7 (a7 :: a6 :: a5 :: a4 :: a3 :: a2 :: a1 :: st) = true) (h1 : mc ≤ bc) (h2 : ms ≤ bs) (hr : xm_Run g M' d' [a1, a2, a3, a4, a5, a6, a7] h mc ms (fun v h' => v = none ∧ Qf h') X) (k : ∀ h', Qf h' → xm_W g Γ n ls st h' (bc - mc) (bs - ms)) : xm_W g Γ pc ls (a7 :: a6 :: a5 :: a4 :: a3 :: a2 :: a1 :: st) h bc bs := by
  refine xm_use hi ⟨hs, mc, ms, ⟨h1, h2⟩, ?_⟩
  exact xm_Run.mono hr (fun v h' q => by
    obtain ⟨rfl, q⟩ := q
    exact k h' q) (fun E q h' x => x)
theorem xw_tXvu7 {ci : Nat} {M' : xm_M} {d' mc ms : Nat} {X : xm_X} {Qf : xm_H → Prop} {a1 a2 a3 a4 a5 a6 a7 : Value} {u : Unit} (hi : xm_Imp g Γ pc (xi_virX g ci M' d' 7 n X)) (hs : xm_stk 7 (a7 :: a6 :: a5 :: a4 :: a3 :: a2 :: a1 :: va_rf o :: st) = true) (ho : o = some a) (hc : xh_is ci h a = some u) (h1 : mc ≤ bc) (h2 : ms ≤ bs) (hr : xm_Run g M' d' [.ref a, a1, a2, a3, a4, a5, a6, a7] h mc ms (fun v h' => v = none ∧ Qf h') X) (k : ∀ h', Qf h' → xm_W g Γ n ls st h' (bc - mc) (bs - ms)) : xm_W g Γ pc ls (a7 :: a6 :: a5 :: a4 :: a3 :: a2 :: a1 :: va_rf o :: st) h bc bs := by
  subst ho
  obtain ⟨w, fs, q⟩ := xh_is_s hc
  refine xm_use hi ⟨hs, w, fs, mc, ms, q, ⟨h1, h2⟩, ?_⟩
  exact xm_Run.mono hr (fun v h' q => by
    obtain ⟨rfl, q⟩ := q
    exact k h' q) (fun E q h' x => x)
theorem xw_tHvu7 {ci : Nat} {M' : xm_M} {d' mc ms : Nat} {XH : xm_X} {hs0 : List (String × Nat)} {Qf : xm_H → Prop} {a1 a2 a3 a4 a5 a6 a7 : Value} {u : Unit} (hi : xm_Imp g Γ pc (xi_virH g ci M' d' 7 n hs0)) (hs : xm_stk 7 (a7 :: a6 :: a5 :: a4 :: a3 :: a2 :: a1 :: va_rf o :: st) = true) (ho : o = some a) (hc : xh_is ci h a = some u) (h1 : mc ≤ bc) (h2 : ms ≤ bs) (hr : xm_Run g M' d' [.ref a, a1, a2, a3, a4, a5, a6, a7] h mc ms (fun v h' => v = none ∧ Qf h') XH) (k : ∀ h', Qf h' → xm_W g Γ n ls st h' (bc - mc) (bs - ms)) (kx : ∀ E q h', XH E q h' → xm_hnd hs0 E (fun t => xm_W g Γ t ls [.ref q] h' (bc - mc) (bs - ms))) : xm_W g Γ pc ls (a7 :: a6 :: a5 :: a4 :: a3 :: a2 :: a1 :: va_rf o :: st) h bc bs := by
  subst ho
  obtain ⟨w, fs, q⟩ := xh_is_s hc
  refine xm_use hi ⟨hs, w, fs, mc, ms, q, ⟨h1, h2⟩, ?_⟩
  exact xm_Run.mono hr (fun v h' q => by
    obtain ⟨rfl, q⟩ := q
    exact k h' q) kx
theorem xw_tpu7 {M' : xm_M} {d' mc ms : Nat} {Qf : xm_H → Prop} {a1 a2 a3 a4 a5 a6 a7 : Value} (hi : xm_Imp g Γ pc (xi_spe g M' d' 7 n)) (hs : xm_stk 7 (a7 :: a6 :: a5 :: a4 :: a3 :: a2 :: a1 :: va_rf o :: st) = true) (ho : o = some a) (h1 : mc ≤ bc) (h2 : ms ≤ bs) (hr : xm_Run g M' d' [.ref a, a1, a2, a3, a4, a5, a6, a7] h mc ms (fun v h' => v = none ∧ Qf h') xm_no) (k : ∀ h', Qf h' → xm_W g Γ n ls st h' (bc - mc) (bs - ms)) : xm_W g Γ pc ls (a7 :: a6 :: a5 :: a4 :: a3 :: a2 :: a1 :: va_rf o :: st) h bc bs := by
  subst ho
  refine xm_use hi ⟨hs, mc, ms, ⟨h1, h2⟩, ?_⟩
  exact xm_Run.mono hr (fun v h' q => by
    obtain ⟨rfl, q⟩ := q
    exact k h' q) (fun E q h' x => x)
theorem xw_psho {v : Value} (hi : xm_Imp g Γ pc (xi_psh v n)) (hv : v = va_rf o) (k : xm_W g Γ n ls (va_rf o :: st) h bc bs) : xm_W g Γ pc ls st h bc bs := by
  subst hv
  exact xm_use hi k
end XH
/-- a static that holds a reference -/
def xm_sto (g : xm_G) (C n dc : String) : Option Nat := match xm_stv g C n dc with
  | .ref a => some a
  | _ => none
theorem so_r {g : xm_G} (hG : xm_Gw g) {C n dc : String} (h : Cond.isRef (.static C n dc) ∈ flatC (Jvm.Cond.and given_1 narrow_1)) : xm_stv g C n dc = va_rf (xm_sto g C n dc) := by
  have e := xm_str hG h
  obtain ⟨a0, -, h1, -⟩ := hG
  have h3 : (Cond.isRef (.static C n dc)).before #[] g.2.1 = true := flat_of_before _ h1 _ h
  simp [Cond.before, Cond.holds, Cond.value, e] at h3
  unfold xm_sto
  revert h3
  cases xm_stv g C n dc <;> simp [Value.isRef, va_rf]
theorem so_e {g : xm_G} (hG : xm_Gw g) {C n dc cls : String} (h : Cond.exactly (.static C n dc) cls ∈ flatC (Jvm.Cond.and given_1 narrow_1)) : xm_stv g C n dc = va_rf (xm_sto g C n dc) := by
  obtain ⟨a0, -, h1, -⟩ := hG
  have h3 : (Cond.exactly (.static C n dc) cls).before #[] g.2.1 = true := flat_of_before _ h1 _ h
  obtain ⟨a, c, cA, kA, q1, -⟩ := Cond.exactly_spec (args := #[]) (first := g.2.1) (o := none) (s := g.2.1) (idx := []) h3
  have e : xm_stv g C n dc = .ref a := by
    unfold xm_stv
    rw [q1]
    rfl
  unfold xm_sto
  rw [e]
  rfl
theorem so_DEFAULTCAPACITY_EMPTY_ELEMENTDATA {g : xm_G} (hG : xm_Gw g) : xm_stv g "java/util/ArrayList" "DEFAULTCAPACITY_EMPTY_ELEMENTDATA" "[Ljava/lang/Object;" = va_rf (xm_sto g "java/util/ArrayList" "DEFAULTCAPACITY_EMPTY_ELEMENTDATA" "[Ljava/lang/Object;") := so_r hG (by decide +kernel)
theorem so_SIOOBE_FORMATTER {g : xm_G} (hG : xm_Gw g) : xm_stv g "jdk/internal/util/Preconditions" "SIOOBE_FORMATTER" "Ljava/util/function/BiFunction;" = va_rf (xm_sto g "jdk/internal/util/Preconditions" "SIOOBE_FORMATTER" "Ljava/util/function/BiFunction;") := so_r hG (by decide +kernel)
theorem so_DigitOnes {g : xm_G} (hG : xm_Gw g) : xm_stv g "java/lang/Integer" "DigitOnes" "[B" = va_rf (xm_sto g "java/lang/Integer" "DigitOnes" "[B") := so_r hG (by decide +kernel)
theorem so_DigitTens {g : xm_G} (hG : xm_Gw g) : xm_stv g "java/lang/Integer" "DigitTens" "[B" = va_rf (xm_sto g "java/lang/Integer" "DigitTens" "[B") := so_r hG (by decide +kernel)
theorem so_UNASSIGNED_STACK {g : xm_G} (hG : xm_Gw g) : xm_stv g Bundle.tN "UNASSIGNED_STACK" Bundle.steD = va_rf (xm_sto g Bundle.tN "UNASSIGNED_STACK" Bundle.steD) := so_r hG xm_s4
theorem so_SUPPRESSED_SENTINEL {g : xm_G} (hG : xm_Gw g) : xm_stv g Bundle.tN "SUPPRESSED_SENTINEL" Bundle.listD = va_rf (xm_sto g Bundle.tN "SUPPRESSED_SENTINEL" Bundle.listD) := so_r hG xm_s5
theorem so_TRUE {g : xm_G} (hG : xm_Gw g) : xm_stv g "java/lang/Boolean" "TRUE" "Ljava/lang/Boolean;" = va_rf (xm_sto g "java/lang/Boolean" "TRUE" "Ljava/lang/Boolean;") := so_e hG (cls := "java/lang/Boolean") (by decide +kernel)
theorem so_FALSE {g : xm_G} (hG : xm_Gw g) : xm_stv g "java/lang/Boolean" "FALSE" "Ljava/lang/Boolean;" = va_rf (xm_sto g "java/lang/Boolean" "FALSE" "Ljava/lang/Boolean;") := so_e hG (cls := "java/lang/Boolean") (by decide +kernel)
theorem so_PRESENT {g : xm_G} (hG : xm_Gw g) : xm_stv g "java/util/HashSet" "PRESENT" "Ljava/lang/Object;" = va_rf (xm_sto g "java/util/HashSet" "PRESENT" "Ljava/lang/Object;") := so_e hG (cls := "java/lang/Object") (by decide +kernel)
