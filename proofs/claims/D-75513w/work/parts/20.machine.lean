/-! THE ABSTRACT MACHINE: a heap of known cells, instructions as predicate transformers, contracts over it -/
set_option maxRecDepth 100000
/-- a cell: an array by its component's type, or an object by its class's number and its fields -/
abbrev xm_E : Type := (FieldType × vp_A) ⊕ (Nat × List Value)
/-- the known cells, with 'may be written' -/
abbrev xm_H : Type := Nat → Option (Bool × xm_E)
/-- the launch, the state at the law's start, class numbers and slots, array classes -/
abbrev xm_G : Type := Launch × State × va_G × (FieldType → ClassId)
def xm_up (h : xm_H) (a : Nat) (o : xm_E) : xm_H := fun b => if b = a then some (true, o) else h b
theorem xm_up_s (h : xm_H) (a : Nat) (o : xm_E) : xm_up h a o a = some (true, o) := by simp [xm_up]
theorem xm_up_n (h : xm_H) {a b : Nat} (o : xm_E) (hne : b ≠ a) : xm_up h a o b = h b := by simp [xm_up, hne]
theorem xm_up_up (h : xm_H) (a : Nat) (o o' : xm_E) : xm_up (xm_up h a o) a o' = xm_up h a o' := by
  funext b
  simp only [xm_up]
  split <;> rfl
theorem xm_up_comm (h : xm_H) {a b : Nat} (o o' : xm_E) (hne : a ≠ b) : xm_up (xm_up h a o) b o' = xm_up (xm_up h b o') a o := by
  funext q
  simp only [xm_up]
  by_cases h1 : q = a
  · subst h1
    simp [hne]
  · by_cases h2 : q = b
    · subst h2
      simp [h1]
    · simp [h1, h2]
theorem xm_up_id (h : xm_H) {a : Nat} {o : xm_E} (ha : h a = some (true, o)) : xm_up h a o = h := by
  funext q
  simp only [xm_up]
  split
  · next e => rw [e, ha]
  · rfl
/-- two addresses with unlike cells differ -/
theorem xm_ne {h : xm_H} {a b : Nat} {x y : Bool × xm_E} (ha : h a = some x) (hb : h b = some y) (hne : x ≠ y) : a ≠ b := by
  intro e
  subst e
  rw [ha] at hb
  exact hne (Option.some.inj hb)
theorem xm_ne0 {h : xm_H} {a b : Nat} {x : Bool × xm_E} (ha : h a = some x) (hb : h b = none) : a ≠ b := by
  intro e
  subst e
  rw [ha] at hb
  cases hb
def xm_A (g : xm_G) : Nat → Prop := fun q => g.2.1.heap.size ≤ q
def xm_K (g : xm_G) (U : State) : Prop := va_K g.2.2.1 xm_cl (xm_tl.map (fun t => (g.2.2.2 t, t))) U
/-- the cell is just so: one of our own -/
def xm_ex (g : xm_G) (a : Nat) (o : xm_E) (H : Heap) : Prop := match o with
  | .inl (ty, A) => ty ∈ xm_tl ∧ H[a]? = some (vp_cell (g.2.2.2 ty) A)
  | .inr (ci, fs) => ∃ r : vw_C, xm_cl[ci]? = some r ∧ fs.length = r.2.2 ∧ t_OB a (g.2.2.1.1 ci) r.2.2 (g.2.2.1.2 ci) H (vp_V fs)
def xm_el (A : vp_A) (j : Nat) : Value := match A.2 with
  | .inl f => .int (f j)
  | .inr (.inl f) => .long (f j)
  | .inr (.inr (.inl f)) => .float (f j)
  | .inr (.inr (.inr (.inl f))) => .double (f j)
  | .inr (.inr (.inr (.inr f))) => va_rf (f j)
theorem xm_el_cell (cA : ClassId) (A : vp_A) : vp_cell cA A = arrV cA A.1 (xm_el A) := by
  obtain ⟨n, f | f | f | f | f⟩ := A <;> rfl
/-- the cell reads so: one that was there at the law's start -/
def xm_wk (g : xm_G) (a : Nat) (o : xm_E) (H : Heap) : Prop := match o with
  | .inl (ty, A) => ty ∈ xm_tl ∧ ∃ cell : Cell, H[a]? = some cell ∧ g.2.1.isArrayOf cell ty ∧ cell.vm ≠ .unknown ∧ cell.vm.isStatics = false ∧ g.2.1.vm.findClass ("[" ++ ty.toString) = some cell.cls ∧ A.1 ≤ cell.slots.size ∧ cell.slots.size.toInt32 = Int32.ofNat A.1 ∧ ∀ j : Nat, j < A.1 → cell.slots[j]? = some (xm_el A j)
  | .inr (ci, fs) => ∃ (r : vw_C) (cell : Cell), xm_cl[ci]? = some r ∧ fs.length = r.2.2 ∧ H[a]? = some cell ∧ cell.cls = g.2.2.1.1 ci ∧ cell.vm.isStatics = false ∧ cell.vm ≠ .unknown ∧ ∀ k : Nat, k < r.2.2 → cell.slots[g.2.2.1.2 ci k]? = some (vp_V fs k)
def xm_at (g : xm_G) (w : Bool) (a : Nat) (o : xm_E) (H : Heap) : Prop := match w with
  | true => xm_ex g a o H
  | false => xm_wk g a o H
/-- the heap holds the known cells; nothing older than the law's start has changed -/
def xm_R (g : xm_G) (h : xm_H) (H : Heap) : Prop := (∀ (a : Nat) (w : Bool) (o : xm_E), h a = some (w, o) → xm_at g w a o H ∧ (w = true → g.2.1.heap.size ≤ a)) ∧ g.2.1.heap.size ≤ H.size ∧ ∀ q : Nat, q < g.2.1.heap.size → H[q]? = g.2.1.heap[q]?
theorem xm_ex.kept {g : xm_G} {a : Nat} {o : xm_E} {H H1 : Heap} (h : xm_ex g a o H) (hq : H1[a]? = H[a]?) : xm_ex g a o H1 := by
  obtain ⟨ty, A⟩ | ⟨ci, fs⟩ := o
  · exact ⟨h.1, hq.trans h.2⟩
  · obtain ⟨r, h1, h2, h3⟩ := h
    exact ⟨r, h1, h2, h3.kept hq⟩
theorem xm_wk.kept {g : xm_G} {a : Nat} {o : xm_E} {H H1 : Heap} (h : xm_wk g a o H) (hq : H1[a]? = H[a]?) : xm_wk g a o H1 := by
  obtain ⟨ty, A⟩ | ⟨ci, fs⟩ := o
  · obtain ⟨h1, cell, h2, h3⟩ := h
    exact ⟨h1, cell, hq.trans h2, h3⟩
  · obtain ⟨r, cell, h1, h2, h3, h4⟩ := h
    exact ⟨r, cell, h1, h2, hq.trans h3, h4⟩
theorem xm_at.kept {g : xm_G} {w : Bool} {a : Nat} {o : xm_E} {H H1 : Heap} (h : xm_at g w a o H) (hq : H1[a]? = H[a]?) : xm_at g w a o H1 := by
  cases w
  · exact xm_wk.kept h hq
  · exact xm_ex.kept h hq
theorem xm_ex.lt {g : xm_G} {a : Nat} {o : xm_E} {H : Heap} (h : xm_ex g a o H) : a < H.size := by
  obtain ⟨ty, A⟩ | ⟨ci, fs⟩ := o
  · exact (Array.getElem?_eq_some_iff.mp h.2).1
  · obtain ⟨r, h1, h2, cell, h3, -⟩ := h
    exact (Array.getElem?_eq_some_iff.mp h3).1
theorem xm_at.lt {g : xm_G} {w : Bool} {a : Nat} {o : xm_E} {H : Heap} (h : xm_at g w a o H) : a < H.size := by
  cases w
  · obtain ⟨ty, A⟩ | ⟨ci, fs⟩ := o
    · obtain ⟨-, cell, h2, -⟩ := h
      exact (Array.getElem?_eq_some_iff.mp h2).1
    · obtain ⟨r, cell, -, -, h3, -⟩ := h
      exact (Array.getElem?_eq_some_iff.mp h3).1
  · exact xm_ex.lt h
theorem xm_R.put {g : xm_G} {h : xm_H} {H H1 : Heap} {a : Nat} {o0 o : xm_E} (hR : xm_R g h H) (ha : h a = some (true, o0)) (h1 : xm_ex g a o H1) (hz : H1.size = H.size) (hq : ∀ q : Nat, q ≠ a → H1[q]? = H[q]?) : xm_R g (xm_up h a o) H1 := by
  have hA : g.2.1.heap.size ≤ a := (hR.1 a true o0 ha).2 rfl
  refine ⟨fun b w o' hb => ?_, by rw [hz]; exact hR.2.1, fun q hl => ?_⟩
  · by_cases e : b = a
    · subst e
      rw [xm_up_s] at hb
      cases hb
      exact ⟨h1, fun _ => hA⟩
    · rw [xm_up_n h o e] at hb
      exact ⟨(hR.1 b w o' hb).1.kept (hq b e), (hR.1 b w o' hb).2⟩
  · rw [hq q (by omega)]
    exact hR.2.2 q hl
theorem xm_R.fresh {g : xm_G} {h : xm_H} {H : Heap} (hR : xm_R g h H) : h H.size = none := by
  cases hh : h H.size with
  | none => rfl
  | some x =>
    obtain ⟨w, o⟩ := x
    exact absurd (hR.1 _ _ _ hh).1.lt (Nat.lt_irrefl _)
theorem xm_R.push {g : xm_G} {h : xm_H} {H H1 : Heap} {o : xm_E} (hR : xm_R g h H) (h1 : xm_ex g H.size o H1) (hz : H1.size = H.size + 1) (hq : ∀ q : Nat, q < H.size → H1[q]? = H[q]?) : xm_R g (xm_up h H.size o) H1 := by
  refine ⟨fun b w o' hb => ?_, by have := hR.2.1; omega, fun q hl => ?_⟩
  · by_cases e : b = H.size
    · subst e
      rw [xm_up_s] at hb
      cases hb
      exact ⟨h1, fun _ => hR.2.1⟩
    · rw [xm_up_n h o e] at hb
      exact ⟨(hR.1 b w o' hb).1.kept (hq b (hR.1 b w o' hb).1.lt), (hR.1 b w o' hb).2⟩
  · rw [hq q (by have := hR.2.1; omega)]
    exact hR.2.2 q hl
/-! locals -/
def xm_as : Nat → List (Option Value) → List (Nat × Value)
  | _, [] => []
  | i, none :: r => xm_as (i + 1) r
  | i, some v :: r => (i, v) :: xm_as (i + 1) r
theorem xm_as_mem {v : Value} : ∀ (ls : List (Option Value)) (i j : Nat), (j, v) ∈ xm_as i ls ↔ i ≤ j ∧ ls[j - i]? = some (some v)
  | [], i, j => by simp [xm_as]
  | none :: r, i, j => by
    rw [xm_as, xm_as_mem r (i + 1) j]
    by_cases h : i = j
    · subst h
      constructor
      · rintro ⟨h1, h2⟩
        omega
      · rintro ⟨h1, h2⟩
        simp at h2
    · constructor
      · rintro ⟨h1, h2⟩
        refine ⟨by omega, ?_⟩
        rw [show j - i = (j - (i + 1)) + 1 by omega, List.getElem?_cons_succ]
        exact h2
      · rintro ⟨h1, h2⟩
        refine ⟨by omega, ?_⟩
        rw [show j - i = (j - (i + 1)) + 1 by omega, List.getElem?_cons_succ] at h2
        exact h2
  | some w :: r, i, j => by
    rw [xm_as, List.mem_cons, xm_as_mem r (i + 1) j]
    by_cases h : i = j
    · subst h
      constructor
      · rintro (h1 | ⟨h1, h2⟩)
        · cases h1
          simp
        · omega
      · rintro ⟨h1, h2⟩
        simp at h2
        exact Or.inl (by rw [h2])
    · constructor
      · rintro (h1 | ⟨h1, h2⟩)
        · exact absurd (congrArg Prod.fst h1).symm h
        · refine ⟨by omega, ?_⟩
          rw [show j - i = (j - (i + 1)) + 1 by omega, List.getElem?_cons_succ]
          exact h2
      · rintro ⟨h1, h2⟩
        refine Or.inr ⟨by omega, ?_⟩
        rw [show j - i = (j - (i + 1)) + 1 by omega, List.getElem?_cons_succ] at h2
        exact h2
theorem xm_as_0 {ls : List (Option Value)} {j : Nat} {v : Value} : (j, v) ∈ xm_as 0 ls ↔ ls[j]? = some (some v) := by
  rw [xm_as_mem]
  simp
def xm_c2 (v : Option (Option Value)) : Bool := match v with
  | some (some (.long _)) => true
  | some (some (.double _)) => true
  | _ => false
/-- a local of one word is stored -/
def xm_s1 (ls : List (Option Value)) (i : Nat) (v : Value) : List (Option Value) := match i with
  | 0 => ls.set 0 (some v)
  | j + 1 => bif xm_c2 ls[j]? then (ls.set j none).set (j + 1) (some v) else ls.set (j + 1) (some v)
/-- a local of two words is stored -/
def xm_s2 (ls : List (Option Value)) (i : Nat) (v : Value) : List (Option Value) := (xm_s1 ls i v).set (i + 1) none
theorem lv_has.mono {ls : Array Slot} {nL : Nat} {l l' : List (Nat × Value)} (h : lv_has ls nL l) (hs : ∀ q ∈ l', q ∈ l) : lv_has ls nL l' := ⟨h.1, h.2.1, fun q hq => h.2.2 q (hs q hq)⟩
theorem xm_c2_of {v : Value} (h : v.category = 2) : xm_c2 (some (some v)) = true := by
  cases v <;> first | rfl | (simp [Value.category] at h)
theorem xm_s1_sub (ls : List (Option Value)) (i : Nat) (v : Value) : ∀ q ∈ xm_as 0 (xm_s1 ls i v), q ∈ (i, v) :: (xm_as 0 ls).filter (fun q => !(q.1 == i) && !(q.1 + 1 == i && q.2.category == 2)) := by
  rintro ⟨j, w⟩ hq
  rw [xm_as_0] at hq
  rw [List.mem_cons, List.mem_filter, xm_as_0]
  by_cases hj : j = i
  · subst hj
    left
    have : (xm_s1 ls j v)[j]? = some (some w) := hq
    cases j with
    | zero =>
      simp only [xm_s1] at this
      rw [List.getElem?_set] at this
      split at this
      · split at this
        · cases this; rfl
        · cases this
      · next h => exact absurd rfl h
    | succ j =>
      simp only [xm_s1] at this
      cases hc : xm_c2 ls[j]? with
      | true =>
        rw [hc] at this
        simp only [cond_true] at this
        rw [List.getElem?_set] at this
        split at this
        · split at this
          · cases this; rfl
          · cases this
        · next h => exact absurd rfl h
      | false =>
        rw [hc] at this
        simp only [cond_false] at this
        rw [List.getElem?_set] at this
        split at this
        · split at this
          · cases this; rfl
          · cases this
        · next h => exact absurd rfl h
  · right
    have h1 : ls[j]? = some (some w) := by
      cases i with
      | zero =>
        simp only [xm_s1] at hq
        rw [List.getElem?_set_ne (by omega)] at hq
        exact hq
      | succ i =>
        simp only [xm_s1] at hq
        cases hc : xm_c2 ls[i]? with
        | true =>
          rw [hc] at hq
          simp only [cond_true] at hq
          rw [List.getElem?_set_ne (by omega), List.getElem?_set] at hq
          split at hq
          · split at hq
            · cases hq
            · cases hq
          · exact hq
        | false =>
          rw [hc] at hq
          simp only [cond_false] at hq
          rw [List.getElem?_set_ne (by omega)] at hq
          exact hq
    refine ⟨h1, ?_⟩
    have e1 : (j == i) = false := by simpa using hj
    by_cases h2 : j + 1 = i ∧ w.category = 2
    · exfalso
      obtain ⟨rfl, h3⟩ := h2
      simp only [xm_s1] at hq
      rw [h1, xm_c2_of h3] at hq
      simp only [cond_true] at hq
      rw [List.getElem?_set_ne (by omega), List.getElem?_set] at hq
      split at hq
      · split at hq
        · cases hq
        · cases hq
      · next h => exact h rfl
    · simp only [e1, Bool.not_false, Bool.true_and, Bool.not_eq_true']
      simp only [Bool.and_eq_false_iff, beq_eq_false_iff_ne]
      by_cases h4 : j + 1 = i
      · right; intro h5; exact h2 ⟨h4, h5⟩
      · left; exact h4
theorem xm_s2_sub (ls : List (Option Value)) (i : Nat) (v : Value) : ∀ q ∈ xm_as 0 (xm_s2 ls i v), q ∈ (i, v) :: (xm_as 0 ls).filter (fun q => !(q.1 == i) && (!(q.1 == i + 1) && !(q.1 + 1 == i && q.2.category == 2))) := by
  rintro ⟨j, w⟩ hq
  rw [xm_as_0] at hq
  have hj : j ≠ i + 1 := by
    intro e
    subst e
    simp only [xm_s2] at hq
    rw [List.getElem?_set] at hq
    split at hq
    · split at hq
      · cases hq
      · cases hq
    · next h => exact h rfl
  have h1 : (j, w) ∈ xm_as 0 (xm_s1 ls i v) := by
    rw [xm_as_0]
    simp only [xm_s2] at hq
    rw [List.getElem?_set_ne (by omega)] at hq
    exact hq
  have h2 := xm_s1_sub ls i v _ h1
  rw [List.mem_cons, List.mem_filter] at h2 ⊢
  rcases h2 with h2 | ⟨h2, h3⟩
  · exact Or.inl h2
  · refine Or.inr ⟨h2, ?_⟩
    have e1 : (j == i + 1) = false := by simpa using hj
    simp only [Bool.and_eq_true] at h3 ⊢
    refine ⟨h3.1, ?_, h3.2⟩
    simp [e1]
/-- the locals at a method's entry -/
def xm_en : List Value → List (Option Value)
  | [] => []
  | .long x :: r => some (.long x) :: none :: xm_en r
  | .double x :: r => some (.double x) :: none :: xm_en r
  | v :: r => some v :: xm_en r
