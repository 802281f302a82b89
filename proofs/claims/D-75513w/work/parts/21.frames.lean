/-! CONTRACTS AND FRAMES OVER THE ABSTRACT MACHINE -/
set_option maxRecDepth 100000
/-- a method: its name, code, locals, answer, handlers -/
abbrev xm_M : Type := MethodName × ByteArray × Nat × Option FieldType × List (Nat × Nat × Nat × Nat)
def xm_cw (M : xm_M) : Cond := match M.2.2.2.2 with
  | [] => .code M.1 M.2.1 M.2.2.1 M.2.2.2.1
  | x :: r => .codeWith M.1 M.2.1 M.2.2.1 M.2.2.2.1 (x :: r)
abbrev xm_P : Type := Option Value → xm_H → Prop
abbrev xm_X : Type := String → Nat → xm_H → Prop
def xm_no : xm_X := fun _ _ _ => False
def xm_Qc (g : xm_G) (Q : xm_P) : Array Value → State → Outcome → State → Prop := fun _ st o t => ∃ (r : Option Value) (h : xm_H), o = .returned r ∧ Q r h ∧ xm_R g h t.heap ∧ va_F (xm_A g) st t
def xm_XC (g : xm_G) (X : xm_X) : String → Addr → State → State → Prop := fun E q st t => ∃ h : xm_H, X E q h ∧ xm_R g h t.heap ∧ va_F (xm_A g) st t
abbrev xm_rm (d mc ms : Nat) : Room := { frames := d, cells := mc, slots := ms, locals := 4096 + 64 * d }
def xm_Pc (g : xm_G) (av : List Value) (h : xm_H) : Array Value → State → Prop := va_Pc av (fun U => g.2.1.WarmedH U.vm ∧ xm_R g h U.heap)
/-- THE CONTRACT: from the known heap h the method M, called with av, returns (Q) or throws (X), with at most mc cells of ms slots made and d frames above it -/
def xm_Run (g : xm_G) (M : xm_M) (d : Nat) (av : List Value) (h : xm_H) (mc ms : Nat) (Q : xm_P) (X : xm_X) : Prop :=
  vq_Met g.1 M.1 [xm_cw M] (xm_rm d mc ms) (xm_Pc g av h) (xm_Qc g Q) (xm_XC g X) mc ms (xm_A g)
theorem xm_Run.mono {g : xm_G} {M : xm_M} {d : Nat} {av : List Value} {h : xm_H} {mc ms : Nat} {Q Q' : xm_P} {X X' : xm_X} (H : xm_Run g M d av h mc ms Q X) (hQ : ∀ r h', Q r h' → Q' r h') (hX : ∀ E q h', X E q h' → X' E q h') : xm_Run g M d av h mc ms Q' X' := by
  intro p e ha hc hk s m args below hf happ hP hK
  obtain ⟨n, o, h1, h2, h3, h4⟩ := H p e ha hc hk s m args below hf happ hP hK
  refine ⟨n, o, h1, h2, h3, ?_⟩
  rcases h4 with ⟨⟨r, h', e1, e2, e3⟩, h5⟩ | ⟨q, e1, E, ce, L, ⟨h', e2, e3⟩, h5⟩
  · exact Or.inl ⟨⟨r, h', e1, hQ r h' e2, e3⟩, h5⟩
  · exact Or.inr ⟨q, e1, E, ce, L, ⟨h', hX E q h' e2, e3⟩, h5⟩
theorem xm_Run.met {g : xm_G} {M : xm_M} {d : Nat} {av : List Value} {h : xm_H} {mc ms : Nat} {Q : xm_P} (H : xm_Run g M d av h mc ms Q xm_no) : Met g.1 M.1 [xm_cw M] (xm_rm d mc ms) (xm_Pc g av h) (xm_Qc g Q) mc ms (xm_A g) := by
  intro p e ha hc hk s m args below hf happ hP hK
  obtain ⟨n, o, h1, h2, h3, h4⟩ := H p e ha hc hk s m args below hf happ hP hK
  refine ⟨n, o, h1, h2, h3, ?_⟩
  rcases h4 with h4 | ⟨q, e1, E, ce, L, ⟨h', e2, e3⟩, h5⟩
  · exact h4
  · exact e2.elim
/-- what is known of the law's start -/
def xm_Gw (g : xm_G) : Prop := ∃ a0 : Array Value, (∀ w ∈ lw_tbl, w.before a0 g.2.1 = true) ∧ (Jvm.Cond.and given_1 narrow_1).before a0 g.2.1 = true ∧ xm_K g g.2.1 ∧ g.1.flags = flags0
theorem xm_hts {g : xm_G} (hG : xm_Gw g) {s : State} (hW : g.2.1.WarmedH s.vm) (args : Array Value) : ∀ w ∈ lw_all, w.before args s = true := by
  obtain ⟨a0, h0, -⟩ := hG
  exact fun w hw => word_at hW (good_of_word (List.mem_filter.mp hw).2) (h0 w (lw_all_tbl hw))
theorem xm_Ks {g : xm_G} (hG : xm_Gw g) {s : State} (hW : g.2.1.WarmedH s.vm) : xm_K g s := by
  obtain ⟨a0, -, -, h0, -⟩ := hG
  exact va_K.moved hW.alike h0
abbrev xm_C : Type := Program × Env × Room × State × MethodId × Array Value × List Frame × Method × Code × (State → Prop)
/-- from this frame the machine comes to the method's end -/
def xm_W (g : xm_G) (Γ : xm_C) (pc : Nat) (ls : List (Option Value)) (st : List Value) (h : xm_H) (bc bs : Nat) : Prop := match Γ with
  | (p, e, R, s, m, args, below, meth, c, Qf) => ∀ (lsA : Array Slot) (H : Heap) (locs : List Loc) (cells slots : Nat), lv_has lsA c.maxLocals (xm_as 0 ls) → xm_R g h H → va_S (xm_A g) s.heap H locs → cells + bc ≤ R.cells → slots + bs ≤ R.slots →
      W p g.1 e R s m args below meth c H locs cells slots Qf (F0 m pc lsA st)
def xm_ok (g : xm_G) (Γ : xm_C) (M : xm_M) (d : Nat) (Q : xm_P) (X : xm_X) : Prop := match Γ with
  | (p, e, R, s, m, args, below, meth, c, Qf) => p.tables.exec = Jvm.exec ∧ c.code = M.2.1 ∧ c.maxLocals = M.2.2.1 ∧ meth.sig.returnType = M.2.2.2.1 ∧ s.vm.findClass M.1.cls = some m.cls ∧ meth.name = M.1.name ∧ meth.locks = false ∧ c.exceptionTable.toList = tableOf M.2.2.2.2 ∧ g.2.1.WarmedH s.vm ∧ (g.2.1.heap.size ≤ s.heap.size ∧ ∀ q : Nat, q < g.2.1.heap.size → s.heap[q]? = g.2.1.heap[q]?) ∧ R.frames = d ∧ R.locals = 4096 + 64 * d ∧
      Qf = vq_MQ below (xm_Qc g Q) (xm_XC g X) args s R.cells R.slots (xm_A g)
theorem xm_en_sub : ∀ (av : List Value) (i : Nat), ∀ q ∈ xm_as i (xm_en av), q ∈ lv_args i av
  | [], i, q, h => by simp [xm_en, xm_as] at h
  | v :: r, i, q, h => by
    have ih := fun i => xm_en_sub r i
    cases v <;> simp only [xm_en, xm_as, lv_args, Value.category, List.mem_cons] at h ⊢ <;> rcases h with h | h <;> first | exact Or.inl h | exact Or.inr (ih _ q h)
theorem xm_as_app : ∀ (ls : List (Option Value)) (i n : Nat), xm_as i (ls ++ List.replicate n none) = xm_as i ls
  | [], i, 0 => rfl
  | [], i, n + 1 => by
    rw [List.replicate_succ, List.nil_append, xm_as]
    exact xm_as_app [] (i + 1) n
  | none :: r, i, n => by simp only [List.cons_append, xm_as]; exact xm_as_app r (i + 1) n
  | some v :: r, i, n => by simp only [List.cons_append, xm_as]; rw [xm_as_app r (i + 1) n]
theorem xm_tbl0 (c : Code) (h : ∀ x ∈ c.exceptionTable.toList, False) : c.exceptionTable.toList = tableOf [] := by
  rw [List.eq_nil_iff_forall_not_mem.mpr (fun x hx => h x hx)]
  rfl
/-- a contract out of the walk of its body -/
theorem xm_Run.of {g : xm_G} {M : xm_M} {d : Nat} {av : List Value} {h : xm_H} {mc ms : Nat} {Q : xm_P} {X : xm_X} (hy : plainName M.1.cls = true) (hn : (lg_sl av).length ≤ M.2.2.1)
    (body : ∀ Γ, xm_ok g Γ M d Q X → xm_W g Γ 0 (xm_en av ++ List.replicate (M.2.2.1 - (lg_sl av).length) none) [] h mc ms) : xm_Run g M d av h mc ms Q X := by
  have go : ∀ p e s m args below meth c s₁, BodyLoose p g.1 M.1 (headSpec [xm_cw M] (xm_rm d mc ms)) M.2.1 M.2.2.1 M.2.2.2.1 e s m args below meth c s₁ → c.maxLocals = M.2.2.1 → c.exceptionTable.toList = tableOf M.2.2.2.2 → xm_Pc g av h args s →
      W p g.1 e (headSpec [xm_cw M] (xm_rm d mc ms)).room s m args below meth c s.heap [] 0 0 (vq_MQ below (xm_Qc g Q) (xm_XC g X) args s mc ms (xm_A g)) (entryFrame m args M.2.2.1) := by
    intro p e s m args below meth c s₁ B hml htb hP
    obtain ⟨rfl, hW, hR⟩ := hP
    have k := body (p, e, (headSpec [xm_cw M] (xm_rm d mc ms)).room, s, m, av.toArray, below, meth, c, vq_MQ below (xm_Qc g Q) (xm_XC g X) av.toArray s mc ms (xm_A g))
      ⟨B.exec, B.bytes, hml, B.returns, findClass_of_methodNamed B.named, (name_of_methodNamed B.named B.method).1, B.notSynchronized, htb, hW, hR.2, rfl, rfl, rfl⟩
    rw [lg_entry_eq]
    refine k _ _ _ 0 0 ?_ hR va_S.rf (Nat.le_of_eq (Nat.zero_add _)) (Nat.le_of_eq (Nat.zero_add _))
    rw [hml, xm_as_app]
    exact (lv_entry av hn).mono (xm_en_sub av 0)
  obtain ⟨y, b, L, r, hh⟩ := M
  cases hh with
  | nil =>
    refine vq_ofW (cc := b) (maxL := L) (ret := r) hy rfl ?_
    intro p e s m args below meth c s₁ B hml htb hP
    exact go p e s m args below meth c s₁ B hml (xm_tbl0 c htb) hP
  | cons x r' =>
    refine vq_ofWH (cc := b) (maxL := L) (ret := r) (hh := x :: r') hy rfl ?_
    intro p e s m args below meth c s₁ B hml hP
    refine go p e s m args below meth c s₁ B hml ?_ hP
    exact vx_table (x := y) B (atoms_spec (ws := [xm_cw (y, b, L, r, x :: r')]) B.pre _ List.mem_cons_self)
/-! instructions -/
abbrev xm_T : Type := Nat → List (Option Value) → List Value → xm_H → Nat → Nat → Prop
abbrev xm_I : Type := List (Option Value) → List Value → xm_H → Nat → Nat → xm_T → Prop
/-- the instruction's meaning is borne out by the machine at pc -/
def xm_Imp (g : xm_G) (Γ : xm_C) (pc : Nat) (i : xm_I) : Prop := ∀ (ls : List (Option Value)) (st : List Value) (h : xm_H) (bc bs : Nat) (k : xm_T), (∀ pc' ls' st' h' bc' bs', k pc' ls' st' h' bc' bs' → xm_W g Γ pc' ls' st' h' bc' bs') → i ls st h bc bs k → xm_W g Γ pc ls st h bc bs
def xm_bot : xm_I := fun _ _ _ _ _ _ => False
def xm_nd (k : Nat) (A B : Nat → xm_I) : Nat → xm_I := fun pc => bif Nat.blt pc k then A pc else B pc
def xm_l1 (k : Nat) (i : xm_I) : Nat → xm_I := fun pc => bif Nat.beq pc k then i else xm_bot
theorem xs_nd {g : xm_G} {Γ : xm_C} {k : Nat} {A B : Nat → xm_I} (hA : ∀ pc, xm_Imp g Γ pc (A pc)) (hB : ∀ pc, xm_Imp g Γ pc (B pc)) : ∀ pc, xm_Imp g Γ pc (xm_nd k A B pc) := by
  intro pc
  unfold xm_nd
  cases Nat.blt pc k
  · exact hB pc
  · exact hA pc
theorem xs_l1 {g : xm_G} {Γ : xm_C} {k : Nat} {i : xm_I} (hi : xm_Imp g Γ k i) : ∀ pc, xm_Imp g Γ pc (xm_l1 k i pc) := by
  intro pc
  unfold xm_l1
  cases h : Nat.beq pc k
  · exact fun _ _ _ _ _ _ _ h => h.elim
  · rw [Nat.eq_of_beq_eq_true h]
    exact hi
def xm_run (C : Nat → xm_I) : Nat → xm_T → xm_T
  | 0, b => b
  | n + 1, b => fun pc ls st h bc bs => C pc ls st h bc bs (xm_run C n b)
theorem xm_run_ok {g : xm_G} {Γ : xm_C} {C : Nat → xm_I} (hC : ∀ pc, xm_Imp g Γ pc (C pc)) : ∀ (n : Nat) (b : xm_T), (∀ pc ls st h bc bs, b pc ls st h bc bs → xm_W g Γ pc ls st h bc bs) → ∀ pc ls st h bc bs, xm_run C n b pc ls st h bc bs → xm_W g Γ pc ls st h bc bs
  | 0, b, hb, pc, ls, st, h, bc, bs, H => hb pc ls st h bc bs H
  | n + 1, b, hb, pc, ls, st, h, bc, bs, H => hC pc ls st h bc bs (xm_run C n b) (xm_run_ok hC n b hb) H
/-- n instructions on -/
theorem xm_go {g : xm_G} {Γ : xm_C} {C : Nat → xm_I} (hC : ∀ pc, xm_Imp g Γ pc (C pc)) (n : Nat) {pc : Nat} {ls : List (Option Value)} {st : List Value} {h : xm_H} {bc bs : Nat}
    (H : ∀ b : xm_T, (∀ pc ls st h bc bs, xm_W g Γ pc ls st h bc bs → b pc ls st h bc bs) → xm_run C n b pc ls st h bc bs) : xm_W g Γ pc ls st h bc bs :=
  xm_run_ok hC n (xm_W g Γ) (fun _ _ _ _ _ _ h => h) pc ls st h bc bs (H _ (fun _ _ _ _ _ _ h => h))
theorem xm_W.less {g : xm_G} {Γ : xm_C} {pc : Nat} {ls : List (Option Value)} {st : List Value} {h : xm_H} {bc bs bc' bs' : Nat} (k : xm_W g Γ pc ls st h bc bs) (h1 : bc ≤ bc') (h2 : bs ≤ bs') : xm_W g Γ pc ls st h bc' bs' := by
  obtain ⟨p, e, R, s, m, args, below, meth, c, Qf⟩ := Γ
  exact fun lsA H locs cells slots hl hR hS hc hs => k lsA H locs cells slots hl hR hS (by omega) (by omega)
/-- either meaning -/
def xi_or (i j : xm_I) : xm_I := fun ls st h bc bs k => i ls st h bc bs k ∨ j ls st h bc bs k
theorem xs_or {g : xm_G} {Γ : xm_C} {pc : Nat} {i j : xm_I} (hi : xm_Imp g Γ pc i) (hj : xm_Imp g Γ pc j) : xm_Imp g Γ pc (xi_or i j) := by
  intro ls st h bc bs k hk H
  rcases H with H | H
  · exact hi ls st h bc bs k hk H
  · exact hj ls st h bc bs k hk H
section XS
variable {g : xm_G} {Γ : xm_C} {M : xm_M} {d : Nat} {Q : xm_P} {X : xm_X} {pc : Nat}
/-! constants -/
def xi_psh (v : Value) (n : Nat) : xm_I := fun ls st h bc bs k => k n ls (v :: st) h bc bs
theorem xs_iconst (hΓ : xm_ok g Γ M d Q X) {z : Int} {v : Int32} (hd : decode M.2.1 pc = .ok (.iconst z, 1)) (hv : Int32.ofInt z = v) : xm_Imp g Γ pc (xi_psh (.int v) (pc + 1)) := by
  obtain ⟨p, e, R, s, m, args, below, meth, c, Qf⟩ := Γ
  intro ls st h bc bs k hk H lsA Hp locs cells slots hl hR hS hc hs
  exact lv_iconst hΓ.1 hΓ.2.1 hd hv (hk _ _ _ _ _ _ H lsA Hp locs cells slots hl hR hS hc hs)
theorem xs_bipush (hΓ : xm_ok g Γ M d Q X) {z : Int} {v : Int32} (hd : decode M.2.1 pc = .ok (.bipush z, 2)) (hv : (Int8.ofInt z).toInt32 = v) : xm_Imp g Γ pc (xi_psh (.int v) (pc + 2)) := by
  obtain ⟨p, e, R, s, m, args, below, meth, c, Qf⟩ := Γ
  intro ls st h bc bs k hk H lsA Hp locs cells slots hl hR hS hc hs
  exact lv_bipush hΓ.1 hΓ.2.1 hd hv (hk _ _ _ _ _ _ H lsA Hp locs cells slots hl hR hS hc hs)
theorem xs_sipush (hΓ : xm_ok g Γ M d Q X) {z : Int} {v : Int32} (hd : decode M.2.1 pc = .ok (.sipush z, 3)) (hv : (Int16.ofInt z).toInt32 = v) : xm_Imp g Γ pc (xi_psh (.int v) (pc + 3)) := by
  obtain ⟨p, e, R, s, m, args, below, meth, c, Qf⟩ := Γ
  intro ls st h bc bs k hk H lsA Hp locs cells slots hl hR hS hc hs
  exact lv_sipush hΓ.1 hΓ.2.1 hd hv (hk _ _ _ _ _ _ H lsA Hp locs cells slots hl hR hS hc hs)
theorem xs_lconst (hΓ : xm_ok g Γ M d Q X) {z : Fin 2} {v : Int64} (hd : decode M.2.1 pc = .ok (.lconst z, 1)) (hv : Int64.ofNat (z : Nat) = v) : xm_Imp g Γ pc (xi_psh (.long v) (pc + 1)) := by
  obtain ⟨p, e, R, s, m, args, below, meth, c, Qf⟩ := Γ
  intro ls st h bc bs k hk H lsA Hp locs cells slots hl hR hS hc hs
  exact lv_lconst hΓ.1 hΓ.2.1 hd hv (hk _ _ _ _ _ _ H lsA Hp locs cells slots hl hR hS hc hs)
theorem xs_fconst0 (hΓ : xm_ok g Γ M d Q X) (hd : decode M.2.1 pc = .ok (.fconst 0, 1)) : xm_Imp g Γ pc (xi_psh (.float FP.fconst0) (pc + 1)) := by
  obtain ⟨p, e, R, s, m, args, below, meth, c, Qf⟩ := Γ
  intro ls st h bc bs k hk H lsA Hp locs cells slots hl hR hS hc hs
  exact lv_fconst0 hΓ.1 hΓ.2.1 hd (hk _ _ _ _ _ _ H lsA Hp locs cells slots hl hR hS hc hs)
theorem xs_fconst1 (hΓ : xm_ok g Γ M d Q X) (hd : decode M.2.1 pc = .ok (.fconst 1, 1)) : xm_Imp g Γ pc (xi_psh (.float FP.fconst1) (pc + 1)) := by
  obtain ⟨p, e, R, s, m, args, below, meth, c, Qf⟩ := Γ
  intro ls st h bc bs k hk H lsA Hp locs cells slots hl hR hS hc hs
  exact lv_fconst1 hΓ.1 hΓ.2.1 hd (hk _ _ _ _ _ _ H lsA Hp locs cells slots hl hR hS hc hs)
theorem xs_dconst0 (hΓ : xm_ok g Γ M d Q X) (hd : decode M.2.1 pc = .ok (.dconst 0, 1)) : xm_Imp g Γ pc (xi_psh (.double FP.dconst0) (pc + 1)) := by
  obtain ⟨p, e, R, s, m, args, below, meth, c, Qf⟩ := Γ
  intro ls st h bc bs k hk H lsA Hp locs cells slots hl hR hS hc hs
  exact lv_dconst0 hΓ.1 hΓ.2.1 hd (hk _ _ _ _ _ _ H lsA Hp locs cells slots hl hR hS hc hs)
theorem xs_dconst1 (hΓ : xm_ok g Γ M d Q X) (hd : decode M.2.1 pc = .ok (.dconst 1, 1)) : xm_Imp g Γ pc (xi_psh (.double FP.dconst1) (pc + 1)) := by
  obtain ⟨p, e, R, s, m, args, below, meth, c, Qf⟩ := Γ
  intro ls st h bc bs k hk H lsA Hp locs cells slots hl hR hS hc hs
  exact lv_dconst1 hΓ.1 hΓ.2.1 hd (hk _ _ _ _ _ _ H lsA Hp locs cells slots hl hR hS hc hs)
theorem xs_null (hΓ : xm_ok g Γ M d Q X) (hd : decode M.2.1 pc = .ok (.aconst_null, 1)) : xm_Imp g Γ pc (xi_psh .null (pc + 1)) := by
  obtain ⟨p, e, R, s, m, args, below, meth, c, Qf⟩ := Γ
  intro ls st h bc bs k hk H lsA Hp locs cells slots hl hR hS hc hs
  exact lv_null hΓ.1 hΓ.2.1 hd (hk _ _ _ _ _ _ H lsA Hp locs cells slots hl hR hS hc hs)
theorem xs_ldc (hG : xm_Gw g) (hΓ : xm_ok g Γ M d Q X) {index : Nat} {v : Int32} (hq : Cond.constant M.1.cls index v ∈ lw_all) (hd : decode M.2.1 pc = .ok (.ldc index, 2)) : xm_Imp g Γ pc (xi_psh (.int v) (pc + 2)) := by
  obtain ⟨p, e, R, s, m, args, below, meth, c, Qf⟩ := Γ
  obtain ⟨hx, hb, -, -, ho, -, -, -, hW, -⟩ := hΓ
  intro ls st h bc bs k hk H lsA Hp locs cells slots hl hR hS hc hs
  exact lv_ldc hx hb ho (xm_hts hG hW args _ hq) hd (hk _ _ _ _ _ _ H lsA Hp locs cells slots hl hR hS hc hs)
theorem xs_ldcw (hG : xm_Gw g) (hΓ : xm_ok g Γ M d Q X) {index : Nat} {v : Int32} (hq : Cond.constant M.1.cls index v ∈ lw_all) (hd : decode M.2.1 pc = .ok (.ldc_w index, 3)) : xm_Imp g Γ pc (xi_psh (.int v) (pc + 3)) := by
  obtain ⟨p, e, R, s, m, args, below, meth, c, Qf⟩ := Γ
  obtain ⟨hx, hb, -, -, ho, -, -, -, hW, -⟩ := hΓ
  intro ls st h bc bs k hk H lsA Hp locs cells slots hl hR hS hc hs
  exact lv_ldcw hx hb ho (xm_hts hG hW args _ hq) hd (hk _ _ _ _ _ _ H lsA Hp locs cells slots hl hR hS hc hs)
theorem xs_ldc2 (hG : xm_Gw g) (hΓ : xm_ok g Γ M d Q X) {index : Nat} {v : Int64} (hq : Cond.constantLong M.1.cls index v ∈ lw_all) (hd : decode M.2.1 pc = .ok (.ldc2_w index, 3)) : xm_Imp g Γ pc (xi_psh (.long v) (pc + 3)) := by
  obtain ⟨p, e, R, s, m, args, below, meth, c, Qf⟩ := Γ
  obtain ⟨hx, hb, -, -, ho, -, -, -, hW, -⟩ := hΓ
  intro ls st h bc bs k hk H lsA Hp locs cells slots hl hR hS hc hs
  exact lv_ldc2 hx hb ho (xm_hts hG hW args _ hq) hd (hk _ _ _ _ _ _ H lsA Hp locs cells slots hl hR hS hc hs)
end XS
