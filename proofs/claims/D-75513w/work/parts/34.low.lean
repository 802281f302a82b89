/-! PARTIAL FUNCTIONS AND LOOPS -/
section XO
variable {α β S R : Type}
def xo_b (o : Option α) (f : α → Option β) : Option β := match o with
  | some a => f a
  | none => none
theorem xo_bs (v : α) (f : α → Option β) : xo_b (some v) f = f v := rfl
theorem xo_b_s {o : Option α} {f : α → Option β} {r : β} (h : xo_b o f = some r) : ∃ v, o = some v ∧ f v = some r := by
  cases o with
  | none => cases h
  | some a => exact ⟨a, rfl, h⟩
noncomputable def xo_g (P : Prop) : Option Unit := @ite _ P (Classical.propDecidable P) (some ()) none
theorem xo_g_s {P : Prop} {u : Unit} (h : xo_g P = some u) : P := by
  unfold xo_g at h
  split at h
  · assumption
  · cases h
theorem xo_g_t {P : Prop} (h : P) : xo_g P = some () := by
  unfold xo_g
  rw [if_pos h]
def xl_it (body : S → Option (S ⊕ R)) : Nat → S → Option R
  | 0, _ => none
  | n + 1, s => match body s with
    | none => none
    | some (.inl s') => xl_it body n s'
    | some (.inr r) => some r
theorem xl_it_s {body : S → Option (S ⊕ R)} {n : Nat} {s : S} {r : R} (h : xl_it body (n + 1) s = some r) : (∃ s', body s = some (.inl s') ∧ xl_it body n s' = some r) ∨ body s = some (.inr r) := by
  unfold xl_it at h
  split at h
  · cases h
  · next s' e => exact Or.inl ⟨s', e, h⟩
  · next r' e => cases h; exact Or.inr e
theorem xl_it_up {body : S → Option (S ⊕ R)} : ∀ (n m : Nat) (s : S) (r : R), n ≤ m → xl_it body n s = some r → xl_it body m s = some r
  | 0, _, _, _, _, h => by cases h
  | n + 1, 0, _, _, hl, _ => by omega
  | n + 1, m + 1, s, r, hl, h => by
    rcases xl_it_s h with ⟨s', e1, e2⟩ | e1
    · unfold xl_it
      rw [e1]
      exact xl_it_up n m s' r (by omega) e2
    · unfold xl_it
      rw [e1]
noncomputable def xl_loop (body : S → Option (S ⊕ R)) (s : S) : Option R := @dite _ (∃ (n : Nat) (r : R), xl_it body n s = some r) (Classical.propDecidable _) (fun h => some (Classical.choose (Classical.choose_spec h))) (fun _ => none)
theorem xl_loop_s {body : S → Option (S ⊕ R)} {s : S} {r : R} (h : xl_loop body s = some r) : ∃ n, xl_it body n s = some r := by
  unfold xl_loop at h
  split at h
  · next h0 =>
    have h1 := Classical.choose_spec (Classical.choose_spec h0)
    cases h
    exact ⟨_, h1⟩
  · cases h
theorem xl_loop_of {body : S → Option (S ⊕ R)} {s : S} {r : R} {n : Nat} (h : xl_it body n s = some r) : xl_loop body s = some r := by
  have h0 : ∃ (n : Nat) (r : R), xl_it body n s = some r := ⟨n, r, h⟩
  unfold xl_loop
  rw [dif_pos h0]
  have h1 := Classical.choose_spec (Classical.choose_spec h0)
  have h2 := xl_it_up _ (n + Classical.choose h0) _ _ (by omega) h1
  rw [xl_it_up _ (n + Classical.choose h0) _ _ (by omega) h] at h2
  exact h2.symm
theorem xl_loop_c {body : S → Option (S ⊕ R)} {s s' : S} (h : body s = some (.inl s')) : xl_loop body s = xl_loop body s' := by
  cases h1 : xl_loop body s' with
  | some r =>
    obtain ⟨n, h2⟩ := xl_loop_s h1
    refine xl_loop_of (n := n + 1) ?_
    unfold xl_it
    rw [h]
    exact h2
  | none =>
    cases h3 : xl_loop body s with
    | none => rfl
    | some r =>
      obtain ⟨n, h2⟩ := xl_loop_s h3
      cases n with
      | zero => cases h2
      | succ n =>
        rcases xl_it_s h2 with ⟨s2, e1, e2⟩ | e1
        · rw [h] at e1
          cases e1
          rw [xl_loop_of e2] at h1
          cases h1
        · rw [h] at e1
          cases e1
theorem xl_loop_r {body : S → Option (S ⊕ R)} {s : S} {r : R} (h : body s = some (.inr r)) : xl_loop body s = some r := by
  refine xl_loop_of (n := 1) ?_
  unfold xl_it
  rw [h]
def xl_P (WS : S → Prop) (PR : R → Prop) : S ⊕ R → Prop
  | .inl s => WS s
  | .inr r => PR r
theorem xl_P_inl {WS : S → Prop} {PR : R → Prop} {s : S} (h : xl_P WS PR (.inl s)) : WS s := h
theorem xl_rule {body : S → Option (S ⊕ R)} {WS : S → Prop} {PR : R → Prop} (hb : ∀ s o, body s = some o → xl_P WS PR o → WS s) : ∀ s r, xl_loop body s = some r → PR r → WS s := by
  have key : ∀ (n : Nat) (s : S) (r : R), xl_it body n s = some r → PR r → WS s := by
    intro n
    induction n with
    | zero => intro s r h; cases h
    | succ n ih =>
      intro s r h hp
      rcases xl_it_s h with ⟨s', e1, e2⟩ | e1
      · exact hb s _ e1 (ih s' r e2 hp)
      · exact hb s _ e1 hp
  intro s r h hp
  obtain ⟨n, h1⟩ := xl_loop_s h
  exact key n s r h1 hp
def xl_o (e : Option R) : Option (S ⊕ R) := match e with
  | some r => some (.inr r)
  | none => none
theorem xl_os (r : R) : (xl_o (some r) : Option (S ⊕ R)) = some (.inr r) := rfl
theorem xl_o_s {x : Option R} {o : S ⊕ R} {WS : S → Prop} {PR : R → Prop} (e : xl_o x = some o) (hp : xl_P WS PR o) : ∃ r, x = some r ∧ PR r := by
  cases x with
  | none => cases e
  | some r => cases e; exact ⟨r, rfl, hp⟩
theorem xl_fin {P : α → Prop} {a o : α} (e : some a = some o) (hp : P o) : P a := by cases e; exact hp
theorem xl_finV {P : α → Prop} {a o : α} (e : a = o) (hp : P o) : P a := by cases e; exact hp
end XO
noncomputable def xb_chk (ty : FieldType) (v : Int32) : Option Unit := xo_g (narrow ty (.int v) = .int v)
theorem xb_of {ty : FieldType} {v : Int32} {u : Unit} (h : xb_chk ty v = some u) : narrow ty (.int v) = .int v := xo_g_s h
/-- an index within -/
def xa_ix (N : Nat) (i : Int32) : Option Nat := if 0 ≤ i.toInt ∧ i.toInt.toNat < N then some i.toInt.toNat else none
theorem xa_ix_s {N j : Nat} {i : Int32} (h : xa_ix N i = some j) : i = nI j ∧ j < N := by
  unfold xa_ix at h
  split at h
  · next c =>
    cases h
    refine ⟨?_, c.2⟩
    have h1 : ((i.toInt.toNat : Nat) : Int) = i.toInt := Int.toNat_of_nonneg c.1
    unfold nI
    apply Int32.toInt_inj.mp
    rw [Int32.toInt_ofNat']
    rw [h1]
    have h2 := i.toInt_lt
    have h3 := i.le_toInt
    have h4 : (Int32.size : Int) = 4294967296 := rfl
    rw [Int.bmod_eq_of_le] <;> omega
  · cases h
theorem xa_ix_n {N j : Nat} (h : j < N) (hN : j < 2 ^ 31) : xa_ix N (nI j) = some j := by
  have h1 : (nI j).toInt = (j : Int) := by
    unfold nI
    rw [Int32.toInt_ofNat']
    have h4 : (Int32.size : Int) = 4294967296 := rfl
    rw [Int.bmod_eq_of_le] <;> omega
  unfold xa_ix
  rw [h1]
  simp [h]
/-! fewer locals are known -/
def xm_le : List (Option Value) → List (Option Value) → Prop
  | [], _ => True
  | none :: r, _ :: r' => xm_le r r'
  | none :: r, [] => xm_le r []
  | some v :: r, x :: r' => x = some v ∧ xm_le r r'
  | some _ :: _, [] => False
theorem xm_le_get : ∀ (a b : List (Option Value)) (i : Nat) (v : Value), xm_le a b → a[i]? = some (some v) → b[i]? = some (some v)
  | [], _, i, v, _, h => by simp at h
  | none :: r, x :: r', 0, v, hl, h => by simp at h
  | none :: r, x :: r', i + 1, v, hl, h => by
    rw [List.getElem?_cons_succ] at h ⊢
    exact xm_le_get r r' i v hl h
  | none :: r, [], 0, v, hl, h => by simp at h
  | none :: r, [], i + 1, v, hl, h => by
    rw [List.getElem?_cons_succ] at h
    have := xm_le_get r [] i v hl h
    simp at this
  | some w :: r, x :: r', 0, v, hl, h => by
    rw [List.getElem?_cons_zero] at h ⊢
    rw [hl.1]
    exact h
  | some w :: r, x :: r', i + 1, v, hl, h => by
    rw [List.getElem?_cons_succ] at h ⊢
    exact xm_le_get r r' i v hl.2 h
  | some w :: r, [], i, v, hl, h => hl.elim
theorem xm_lw {g : xm_G} {Γ : xm_C} {pc : Nat} {ls ls' : List (Option Value)} {st : List Value} {h : xm_H} {bc bs : Nat} (hl : xm_le ls ls') (k : xm_W g Γ pc ls st h bc bs) : xm_W g Γ pc ls' st h bc bs := by
  obtain ⟨p, e, R, s, m, args, below, meth, c, Qf⟩ := Γ
  intro lsA H locs cells slots hh
  refine k lsA H locs cells slots (hh.mono ?_)
  rintro ⟨i, v⟩ hq
  rw [xm_as_0] at hq ⊢
  exact xm_le_get _ _ i v hl hq
theorem xm_lx {g : xm_G} {Γ : xm_C} {pc : Nat} {ls ls' : List (Option Value)} {st : List Value} {h : xm_H} {bc bs : Nat} (k : xm_W g Γ pc ls st h bc bs) (hl : xm_le ls ls') : xm_W g Γ pc ls' st h bc bs := xm_lw hl k
theorem xb_n0 : narrow .boolean (.int 0) = .int 0 := rfl
theorem xb_n1 : narrow .boolean (.int 1) = .int 1 := rfl
def ja_ushr (x y : Int32) : Int32 := (x.toUInt32 >>> (y.toUInt32 &&& Int32.toUInt32 31)).toInt32
def xo_l {α β : Type} (E : α) (K : α → β) : β := K E
theorem xo_l_s {α β : Type} {E : α} {K : α → β} {o : β} (e : xo_l E K = o) : ∃ v, v = E ∧ K v = o := ⟨E, rfl, e⟩
theorem xn_int (v : Int32) : narrow .int (.int v) = .int v := rfl
theorem xf_int (v : Int32) : narrow .int (.int v) = .int v ∧ fits .int (.int v) = true := ⟨rfl, rfl⟩
