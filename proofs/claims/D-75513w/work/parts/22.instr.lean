/-! INSTRUCTIONS: locals, stack, numbers, branches (printed by gen/mkinstr.py) -/
set_option maxRecDepth 100000
section XS2
variable {g : xm_G} {Γ : xm_C} {M : xm_M} {d : Nat} {Q : xm_P} {X : xm_X} {pc : Nat}
def xi_ild (i n : Nat) : xm_I := fun ls st h bc bs k => match ls[i]? with
  | some (some (.int x)) => k n ls (.int x :: st) h bc bs
  | _ => False
theorem xs_iload_n (hΓ : xm_ok g Γ M d Q X) {z : Fin 4} (hd : decode M.2.1 pc = .ok (.iload_n z, 1)) : xm_Imp g Γ pc (xi_ild (z : Nat) (pc + 1)) := by
  obtain ⟨p, e, R, s, m, args, below, meth, c, Qf⟩ := Γ
  intro ls st h bc bs k hk H lsA Hp locs cells slots hl hR hS hc hs
  unfold xi_ild at H
  split at H
  · next x hx =>
    exact lv_iload_n hΓ.1 hΓ.2.1 hd rfl (hl.2.2 ((z : Nat), .int x) (xm_as_0.mpr hx)) (hk _ _ _ _ _ _ H lsA Hp locs cells slots hl hR hS hc hs)
  · exact H.elim
theorem xs_iload (hΓ : xm_ok g Γ M d Q X) {i : Nat} (hd : decode M.2.1 pc = .ok (.iload i, 2)) : xm_Imp g Γ pc (xi_ild i (pc + 2)) := by
  obtain ⟨p, e, R, s, m, args, below, meth, c, Qf⟩ := Γ
  intro ls st h bc bs k hk H lsA Hp locs cells slots hl hR hS hc hs
  unfold xi_ild at H
  split at H
  · next x hx =>
    exact lv_iload hΓ.1 hΓ.2.1 hd (hl.2.2 (i, .int x) (xm_as_0.mpr hx)) (hk _ _ _ _ _ _ H lsA Hp locs cells slots hl hR hS hc hs)
  · exact H.elim
def xi_lld (i n : Nat) : xm_I := fun ls st h bc bs k => match ls[i]? with
  | some (some (.long x)) => k n ls (.long x :: st) h bc bs
  | _ => False
theorem xs_lload_n (hΓ : xm_ok g Γ M d Q X) {z : Fin 4} (hd : decode M.2.1 pc = .ok (.lload_n z, 1)) : xm_Imp g Γ pc (xi_lld (z : Nat) (pc + 1)) := by
  obtain ⟨p, e, R, s, m, args, below, meth, c, Qf⟩ := Γ
  intro ls st h bc bs k hk H lsA Hp locs cells slots hl hR hS hc hs
  unfold xi_lld at H
  split at H
  · next x hx =>
    exact lv_lload_n hΓ.1 hΓ.2.1 hd rfl (hl.2.2 ((z : Nat), .long x) (xm_as_0.mpr hx)) (hk _ _ _ _ _ _ H lsA Hp locs cells slots hl hR hS hc hs)
  · exact H.elim
theorem xs_lload (hΓ : xm_ok g Γ M d Q X) {i : Nat} (hd : decode M.2.1 pc = .ok (.lload i, 2)) : xm_Imp g Γ pc (xi_lld i (pc + 2)) := by
  obtain ⟨p, e, R, s, m, args, below, meth, c, Qf⟩ := Γ
  intro ls st h bc bs k hk H lsA Hp locs cells slots hl hR hS hc hs
  unfold xi_lld at H
  split at H
  · next x hx =>
    exact lv_lload hΓ.1 hΓ.2.1 hd (hl.2.2 (i, .long x) (xm_as_0.mpr hx)) (hk _ _ _ _ _ _ H lsA Hp locs cells slots hl hR hS hc hs)
  · exact H.elim
def xi_fld (i n : Nat) : xm_I := fun ls st h bc bs k => match ls[i]? with
  | some (some (.float x)) => k n ls (.float x :: st) h bc bs
  | _ => False
theorem xs_fload_n (hΓ : xm_ok g Γ M d Q X) {z : Fin 4} (hd : decode M.2.1 pc = .ok (.fload_n z, 1)) : xm_Imp g Γ pc (xi_fld (z : Nat) (pc + 1)) := by
  obtain ⟨p, e, R, s, m, args, below, meth, c, Qf⟩ := Γ
  intro ls st h bc bs k hk H lsA Hp locs cells slots hl hR hS hc hs
  unfold xi_fld at H
  split at H
  · next x hx =>
    exact lv_fload_n hΓ.1 hΓ.2.1 hd rfl (hl.2.2 ((z : Nat), .float x) (xm_as_0.mpr hx)) (hk _ _ _ _ _ _ H lsA Hp locs cells slots hl hR hS hc hs)
  · exact H.elim
theorem xs_fload (hΓ : xm_ok g Γ M d Q X) {i : Nat} (hd : decode M.2.1 pc = .ok (.fload i, 2)) : xm_Imp g Γ pc (xi_fld i (pc + 2)) := by
  obtain ⟨p, e, R, s, m, args, below, meth, c, Qf⟩ := Γ
  intro ls st h bc bs k hk H lsA Hp locs cells slots hl hR hS hc hs
  unfold xi_fld at H
  split at H
  · next x hx =>
    exact lv_fload hΓ.1 hΓ.2.1 hd (hl.2.2 (i, .float x) (xm_as_0.mpr hx)) (hk _ _ _ _ _ _ H lsA Hp locs cells slots hl hR hS hc hs)
  · exact H.elim
def xi_dld (i n : Nat) : xm_I := fun ls st h bc bs k => match ls[i]? with
  | some (some (.double x)) => k n ls (.double x :: st) h bc bs
  | _ => False
theorem xs_dload_n (hΓ : xm_ok g Γ M d Q X) {z : Fin 4} (hd : decode M.2.1 pc = .ok (.dload_n z, 1)) : xm_Imp g Γ pc (xi_dld (z : Nat) (pc + 1)) := by
  obtain ⟨p, e, R, s, m, args, below, meth, c, Qf⟩ := Γ
  intro ls st h bc bs k hk H lsA Hp locs cells slots hl hR hS hc hs
  unfold xi_dld at H
  split at H
  · next x hx =>
    exact lv_dload_n hΓ.1 hΓ.2.1 hd rfl (hl.2.2 ((z : Nat), .double x) (xm_as_0.mpr hx)) (hk _ _ _ _ _ _ H lsA Hp locs cells slots hl hR hS hc hs)
  · exact H.elim
theorem xs_dload (hΓ : xm_ok g Γ M d Q X) {i : Nat} (hd : decode M.2.1 pc = .ok (.dload i, 2)) : xm_Imp g Γ pc (xi_dld i (pc + 2)) := by
  obtain ⟨p, e, R, s, m, args, below, meth, c, Qf⟩ := Γ
  intro ls st h bc bs k hk H lsA Hp locs cells slots hl hR hS hc hs
  unfold xi_dld at H
  split at H
  · next x hx =>
    exact lv_dload hΓ.1 hΓ.2.1 hd (hl.2.2 (i, .double x) (xm_as_0.mpr hx)) (hk _ _ _ _ _ _ H lsA Hp locs cells slots hl hR hS hc hs)
  · exact H.elim
def xi_ald (i n : Nat) : xm_I := fun ls st h bc bs k => match ls[i]? with
  | some (some (.ref x)) => k n ls (.ref x :: st) h bc bs
  | some (some .null) => k n ls (.null :: st) h bc bs
  | _ => False
theorem xs_aload_n (hΓ : xm_ok g Γ M d Q X) {z : Fin 4} (hd : decode M.2.1 pc = .ok (.aload_n z, 1)) : xm_Imp g Γ pc (xi_ald (z : Nat) (pc + 1)) := by
  obtain ⟨p, e, R, s, m, args, below, meth, c, Qf⟩ := Γ
  intro ls st h bc bs k hk H lsA Hp locs cells slots hl hR hS hc hs
  unfold xi_ald at H
  split at H
  · next x hx =>
    exact lv_aload_n hΓ.1 hΓ.2.1 hd rfl (hl.2.2 ((z : Nat), .ref x) (xm_as_0.mpr hx)) (hk _ _ _ _ _ _ H lsA Hp locs cells slots hl hR hS hc hs)
  · next hx =>
    exact lv_aload_nN hΓ.1 hΓ.2.1 hd rfl (hl.2.2 ((z : Nat), .null) (xm_as_0.mpr hx)) (hk _ _ _ _ _ _ H lsA Hp locs cells slots hl hR hS hc hs)
  · exact H.elim
theorem xs_aload (hΓ : xm_ok g Γ M d Q X) {i : Nat} (hd : decode M.2.1 pc = .ok (.aload i, 2)) : xm_Imp g Γ pc (xi_ald i (pc + 2)) := by
  obtain ⟨p, e, R, s, m, args, below, meth, c, Qf⟩ := Γ
  intro ls st h bc bs k hk H lsA Hp locs cells slots hl hR hS hc hs
  unfold xi_ald at H
  split at H
  · next x hx =>
    exact lv_aload hΓ.1 hΓ.2.1 hd (hl.2.2 (i, .ref x) (xm_as_0.mpr hx)) (hk _ _ _ _ _ _ H lsA Hp locs cells slots hl hR hS hc hs)
  · next hx =>
    exact lv_aloadN hΓ.1 hΓ.2.1 hd (hl.2.2 (i, .null) (xm_as_0.mpr hx)) (hk _ _ _ _ _ _ H lsA Hp locs cells slots hl hR hS hc hs)
  · exact H.elim
def xi_ist (i n : Nat) : xm_I := fun ls st h bc bs k => match st with
  | .int x :: r => k n (xm_s1 ls i (.int x)) r h bc bs
  | _ => False
theorem xs_istore_n (hΓ : xm_ok g Γ M d Q X) {z : Fin 4} (hd : decode M.2.1 pc = .ok (.istore_n z, 1)) (hi : (z : Nat) < M.2.2.1) : xm_Imp g Γ pc (xi_ist (z : Nat) (pc + 1)) := by
  obtain ⟨p, e, R, s, m, args, below, meth, c, Qf⟩ := Γ
  intro ls st h bc bs k hk H lsA Hp locs cells slots hl hR hS hc hs
  unfold xi_ist at H
  split at H
  · next x r =>
    refine lv_istore_n (nL := c.maxLocals) hΓ.1 hΓ.2.1 hd rfl hl (by rw [hΓ.2.2.1]; exact hi) rfl (fun ls' hl' => ?_)
    exact hk _ _ _ _ _ _ H ls' Hp locs cells slots (hl'.mono (xm_s1_sub ls _ _)) hR hS hc hs
  · exact H.elim
theorem xs_istore (hΓ : xm_ok g Γ M d Q X) {i : Nat} (hd : decode M.2.1 pc = .ok (.istore i, 2)) (hi : i < M.2.2.1) : xm_Imp g Γ pc (xi_ist i (pc + 2)) := by
  obtain ⟨p, e, R, s, m, args, below, meth, c, Qf⟩ := Γ
  intro ls st h bc bs k hk H lsA Hp locs cells slots hl hR hS hc hs
  unfold xi_ist at H
  split at H
  · next x r =>
    refine lv_istore (nL := c.maxLocals) hΓ.1 hΓ.2.1 hd hl (by rw [hΓ.2.2.1]; exact hi) rfl (fun ls' hl' => ?_)
    exact hk _ _ _ _ _ _ H ls' Hp locs cells slots (hl'.mono (xm_s1_sub ls _ _)) hR hS hc hs
  · exact H.elim
def xi_fst (i n : Nat) : xm_I := fun ls st h bc bs k => match st with
  | .float x :: r => k n (xm_s1 ls i (.float x)) r h bc bs
  | _ => False
theorem xs_fstore_n (hΓ : xm_ok g Γ M d Q X) {z : Fin 4} (hd : decode M.2.1 pc = .ok (.fstore_n z, 1)) (hi : (z : Nat) < M.2.2.1) : xm_Imp g Γ pc (xi_fst (z : Nat) (pc + 1)) := by
  obtain ⟨p, e, R, s, m, args, below, meth, c, Qf⟩ := Γ
  intro ls st h bc bs k hk H lsA Hp locs cells slots hl hR hS hc hs
  unfold xi_fst at H
  split at H
  · next x r =>
    refine lv_fstore_n (nL := c.maxLocals) hΓ.1 hΓ.2.1 hd rfl hl (by rw [hΓ.2.2.1]; exact hi) rfl (fun ls' hl' => ?_)
    exact hk _ _ _ _ _ _ H ls' Hp locs cells slots (hl'.mono (xm_s1_sub ls _ _)) hR hS hc hs
  · exact H.elim
theorem xs_fstore (hΓ : xm_ok g Γ M d Q X) {i : Nat} (hd : decode M.2.1 pc = .ok (.fstore i, 2)) (hi : i < M.2.2.1) : xm_Imp g Γ pc (xi_fst i (pc + 2)) := by
  obtain ⟨p, e, R, s, m, args, below, meth, c, Qf⟩ := Γ
  intro ls st h bc bs k hk H lsA Hp locs cells slots hl hR hS hc hs
  unfold xi_fst at H
  split at H
  · next x r =>
    refine lv_fstore (nL := c.maxLocals) hΓ.1 hΓ.2.1 hd hl (by rw [hΓ.2.2.1]; exact hi) rfl (fun ls' hl' => ?_)
    exact hk _ _ _ _ _ _ H ls' Hp locs cells slots (hl'.mono (xm_s1_sub ls _ _)) hR hS hc hs
  · exact H.elim
def xi_lst (i n : Nat) : xm_I := fun ls st h bc bs k => match st with
  | .long x :: r => k n (xm_s2 ls i (.long x)) r h bc bs
  | _ => False
theorem xs_lstore_n (hΓ : xm_ok g Γ M d Q X) {z : Fin 4} (hd : decode M.2.1 pc = .ok (.lstore_n z, 1)) (hi : (z : Nat) + 1 < M.2.2.1) : xm_Imp g Γ pc (xi_lst (z : Nat) (pc + 1)) := by
  obtain ⟨p, e, R, s, m, args, below, meth, c, Qf⟩ := Γ
  intro ls st h bc bs k hk H lsA Hp locs cells slots hl hR hS hc hs
  unfold xi_lst at H
  split at H
  · next x r =>
    refine lv_lstore_n (nL := c.maxLocals) hΓ.1 hΓ.2.1 hd rfl hl (by rw [hΓ.2.2.1]; exact hi) rfl (fun ls' hl' => ?_)
    exact hk _ _ _ _ _ _ H ls' Hp locs cells slots (hl'.mono (xm_s2_sub ls _ _)) hR hS hc hs
  · exact H.elim
theorem xs_lstore (hΓ : xm_ok g Γ M d Q X) {i : Nat} (hd : decode M.2.1 pc = .ok (.lstore i, 2)) (hi : i + 1 < M.2.2.1) : xm_Imp g Γ pc (xi_lst i (pc + 2)) := by
  obtain ⟨p, e, R, s, m, args, below, meth, c, Qf⟩ := Γ
  intro ls st h bc bs k hk H lsA Hp locs cells slots hl hR hS hc hs
  unfold xi_lst at H
  split at H
  · next x r =>
    refine lv_lstore (nL := c.maxLocals) hΓ.1 hΓ.2.1 hd hl (by rw [hΓ.2.2.1]; exact hi) rfl (fun ls' hl' => ?_)
    exact hk _ _ _ _ _ _ H ls' Hp locs cells slots (hl'.mono (xm_s2_sub ls _ _)) hR hS hc hs
  · exact H.elim
def xi_dst (i n : Nat) : xm_I := fun ls st h bc bs k => match st with
  | .double x :: r => k n (xm_s2 ls i (.double x)) r h bc bs
  | _ => False
theorem xs_dstore_n (hΓ : xm_ok g Γ M d Q X) {z : Fin 4} (hd : decode M.2.1 pc = .ok (.dstore_n z, 1)) (hi : (z : Nat) + 1 < M.2.2.1) : xm_Imp g Γ pc (xi_dst (z : Nat) (pc + 1)) := by
  obtain ⟨p, e, R, s, m, args, below, meth, c, Qf⟩ := Γ
  intro ls st h bc bs k hk H lsA Hp locs cells slots hl hR hS hc hs
  unfold xi_dst at H
  split at H
  · next x r =>
    refine lv_dstore_n (nL := c.maxLocals) hΓ.1 hΓ.2.1 hd rfl hl (by rw [hΓ.2.2.1]; exact hi) rfl (fun ls' hl' => ?_)
    exact hk _ _ _ _ _ _ H ls' Hp locs cells slots (hl'.mono (xm_s2_sub ls _ _)) hR hS hc hs
  · exact H.elim
theorem xs_dstore (hΓ : xm_ok g Γ M d Q X) {i : Nat} (hd : decode M.2.1 pc = .ok (.dstore i, 2)) (hi : i + 1 < M.2.2.1) : xm_Imp g Γ pc (xi_dst i (pc + 2)) := by
  obtain ⟨p, e, R, s, m, args, below, meth, c, Qf⟩ := Γ
  intro ls st h bc bs k hk H lsA Hp locs cells slots hl hR hS hc hs
  unfold xi_dst at H
  split at H
  · next x r =>
    refine lv_dstore (nL := c.maxLocals) hΓ.1 hΓ.2.1 hd hl (by rw [hΓ.2.2.1]; exact hi) rfl (fun ls' hl' => ?_)
    exact hk _ _ _ _ _ _ H ls' Hp locs cells slots (hl'.mono (xm_s2_sub ls _ _)) hR hS hc hs
  · exact H.elim
def xi_ast (i n : Nat) : xm_I := fun ls st h bc bs k => match st with
  | .ref x :: r => k n (xm_s1 ls i (.ref x)) r h bc bs
  | .null :: r => k n (xm_s1 ls i .null) r h bc bs
  | _ => False
theorem xs_astore_n (hΓ : xm_ok g Γ M d Q X) {z : Fin 4} (hd : decode M.2.1 pc = .ok (.astore_n z, 1)) (hi : (z : Nat) < M.2.2.1) : xm_Imp g Γ pc (xi_ast (z : Nat) (pc + 1)) := by
  obtain ⟨p, e, R, s, m, args, below, meth, c, Qf⟩ := Γ
  intro ls st h bc bs k hk H lsA Hp locs cells slots hl hR hS hc hs
  unfold xi_ast at H
  split at H
  · next x r =>
    refine lv_astore_n (nL := c.maxLocals) hΓ.1 hΓ.2.1 hd rfl hl (by rw [hΓ.2.2.1]; exact hi) rfl (fun ls' hl' => ?_)
    exact hk _ _ _ _ _ _ H ls' Hp locs cells slots (hl'.mono (xm_s1_sub ls _ _)) hR hS hc hs
  · next r =>
    refine lv_astore_nN (nL := c.maxLocals) hΓ.1 hΓ.2.1 hd rfl hl (by rw [hΓ.2.2.1]; exact hi) rfl (fun ls' hl' => ?_)
    exact hk _ _ _ _ _ _ H ls' Hp locs cells slots (hl'.mono (xm_s1_sub ls _ _)) hR hS hc hs
  · exact H.elim
theorem xs_astore (hΓ : xm_ok g Γ M d Q X) {i : Nat} (hd : decode M.2.1 pc = .ok (.astore i, 2)) (hi : i < M.2.2.1) : xm_Imp g Γ pc (xi_ast i (pc + 2)) := by
  obtain ⟨p, e, R, s, m, args, below, meth, c, Qf⟩ := Γ
  intro ls st h bc bs k hk H lsA Hp locs cells slots hl hR hS hc hs
  unfold xi_ast at H
  split at H
  · next x r =>
    refine lv_astore (nL := c.maxLocals) hΓ.1 hΓ.2.1 hd hl (by rw [hΓ.2.2.1]; exact hi) rfl (fun ls' hl' => ?_)
    exact hk _ _ _ _ _ _ H ls' Hp locs cells slots (hl'.mono (xm_s1_sub ls _ _)) hR hS hc hs
  · next r =>
    refine lv_astoreN (nL := c.maxLocals) hΓ.1 hΓ.2.1 hd hl (by rw [hΓ.2.2.1]; exact hi) rfl (fun ls' hl' => ?_)
    exact hk _ _ _ _ _ _ H ls' Hp locs cells slots (hl'.mono (xm_s1_sub ls _ _)) hR hS hc hs
  · exact H.elim
def xi_inc (i : Nat) (v : Int32) (n : Nat) : xm_I := fun ls st h bc bs k => match ls[i]? with
  | some (some (.int x)) => k n (xm_s1 ls i (.int (x + v))) st h bc bs
  | _ => False
theorem xs_iinc (hΓ : xm_ok g Γ M d Q X) {i : Nat} {z : Int} {v : Int32} (hd : decode M.2.1 pc = .ok (.iinc i z, 3)) (hv : Int32.ofInt z = v) (hi : i < M.2.2.1) : xm_Imp g Γ pc (xi_inc i v (pc + 3)) := by
  obtain ⟨p, e, R, s, m, args, below, meth, c, Qf⟩ := Γ
  intro ls st h bc bs k hk H lsA Hp locs cells slots hl hR hS hc hs
  unfold xi_inc at H
  split at H
  · next x hx =>
    obtain ⟨j, hj⟩ := List.getElem?_of_mem (xm_as_0.mpr hx)
    refine lv_iinc (nL := c.maxLocals) (k := j) (v := x + v) hΓ.1 hΓ.2.1 hd hl hj (by rw [hv]) (by rw [hΓ.2.2.1]; exact hi) rfl (fun ls' hl' => ?_)
    exact hk _ _ _ _ _ _ H ls' Hp locs cells slots (hl'.mono (xm_s1_sub ls _ _)) hR hS hc hs
  · exact H.elim
def xi_ii (f : Int32 → Int32 → Int32) (n : Nat) : xm_I := fun ls st h bc bs k => match st with
  | .int y :: .int x :: r => k n ls (.int (f x y) :: r) h bc bs
  | _ => False
theorem xs_iadd (hΓ : xm_ok g Γ M d Q X) (hd : decode M.2.1 pc = .ok (.iadd, 1)) : xm_Imp g Γ pc (xi_ii (fun x y => x + y) (pc + 1)) := by
  obtain ⟨p, e, R, s, m, args, below, meth, c, Qf⟩ := Γ
  intro ls st h bc bs k hk H lsA Hp locs cells slots hl hR hS hc hs
  unfold xi_ii at H
  split at H
  · exact lv_iadd hΓ.1 hΓ.2.1 hd (hk _ _ _ _ _ _ H lsA Hp locs cells slots hl hR hS hc hs)
  · exact H.elim
theorem xs_isub (hΓ : xm_ok g Γ M d Q X) (hd : decode M.2.1 pc = .ok (.isub, 1)) : xm_Imp g Γ pc (xi_ii (fun x y => x - y) (pc + 1)) := by
  obtain ⟨p, e, R, s, m, args, below, meth, c, Qf⟩ := Γ
  intro ls st h bc bs k hk H lsA Hp locs cells slots hl hR hS hc hs
  unfold xi_ii at H
  split at H
  · exact lv_isub hΓ.1 hΓ.2.1 hd (hk _ _ _ _ _ _ H lsA Hp locs cells slots hl hR hS hc hs)
  · exact H.elim
theorem xs_imul (hΓ : xm_ok g Γ M d Q X) (hd : decode M.2.1 pc = .ok (.imul, 1)) : xm_Imp g Γ pc (xi_ii (fun x y => x * y) (pc + 1)) := by
  obtain ⟨p, e, R, s, m, args, below, meth, c, Qf⟩ := Γ
  intro ls st h bc bs k hk H lsA Hp locs cells slots hl hR hS hc hs
  unfold xi_ii at H
  split at H
  · exact lv_imul hΓ.1 hΓ.2.1 hd (hk _ _ _ _ _ _ H lsA Hp locs cells slots hl hR hS hc hs)
  · exact H.elim
theorem xs_iand (hΓ : xm_ok g Γ M d Q X) (hd : decode M.2.1 pc = .ok (.iand, 1)) : xm_Imp g Γ pc (xi_ii (fun x y => x &&& y) (pc + 1)) := by
  obtain ⟨p, e, R, s, m, args, below, meth, c, Qf⟩ := Γ
  intro ls st h bc bs k hk H lsA Hp locs cells slots hl hR hS hc hs
  unfold xi_ii at H
  split at H
  · exact lv_iand hΓ.1 hΓ.2.1 hd (hk _ _ _ _ _ _ H lsA Hp locs cells slots hl hR hS hc hs)
  · exact H.elim
theorem xs_ior (hΓ : xm_ok g Γ M d Q X) (hd : decode M.2.1 pc = .ok (.ior, 1)) : xm_Imp g Γ pc (xi_ii (fun x y => x ||| y) (pc + 1)) := by
  obtain ⟨p, e, R, s, m, args, below, meth, c, Qf⟩ := Γ
  intro ls st h bc bs k hk H lsA Hp locs cells slots hl hR hS hc hs
  unfold xi_ii at H
  split at H
  · exact lv_ior hΓ.1 hΓ.2.1 hd (hk _ _ _ _ _ _ H lsA Hp locs cells slots hl hR hS hc hs)
  · exact H.elim
theorem xs_ixor (hΓ : xm_ok g Γ M d Q X) (hd : decode M.2.1 pc = .ok (.ixor, 1)) : xm_Imp g Γ pc (xi_ii (fun x y => x ^^^ y) (pc + 1)) := by
  obtain ⟨p, e, R, s, m, args, below, meth, c, Qf⟩ := Γ
  intro ls st h bc bs k hk H lsA Hp locs cells slots hl hR hS hc hs
  unfold xi_ii at H
  split at H
  · exact lv_ixor hΓ.1 hΓ.2.1 hd (hk _ _ _ _ _ _ H lsA Hp locs cells slots hl hR hS hc hs)
  · exact H.elim
theorem xs_ishl (hΓ : xm_ok g Γ M d Q X) (hd : decode M.2.1 pc = .ok (.ishl, 1)) : xm_Imp g Γ pc (xi_ii (fun x y => x <<< (y &&& 31)) (pc + 1)) := by
  obtain ⟨p, e, R, s, m, args, below, meth, c, Qf⟩ := Γ
  intro ls st h bc bs k hk H lsA Hp locs cells slots hl hR hS hc hs
  unfold xi_ii at H
  split at H
  · exact lv_ishl hΓ.1 hΓ.2.1 hd (hk _ _ _ _ _ _ H lsA Hp locs cells slots hl hR hS hc hs)
  · exact H.elim
theorem xs_ishr (hΓ : xm_ok g Γ M d Q X) (hd : decode M.2.1 pc = .ok (.ishr, 1)) : xm_Imp g Γ pc (xi_ii (fun x y => x >>> (y &&& 31)) (pc + 1)) := by
  obtain ⟨p, e, R, s, m, args, below, meth, c, Qf⟩ := Γ
  intro ls st h bc bs k hk H lsA Hp locs cells slots hl hR hS hc hs
  unfold xi_ii at H
  split at H
  · exact lv_ishr hΓ.1 hΓ.2.1 hd (hk _ _ _ _ _ _ H lsA Hp locs cells slots hl hR hS hc hs)
  · exact H.elim
theorem xs_iushr (hΓ : xm_ok g Γ M d Q X) (hd : decode M.2.1 pc = .ok (.iushr, 1)) : xm_Imp g Γ pc (xi_ii (fun x y => (x.toUInt32 >>> (y.toUInt32 &&& Int32.toUInt32 31)).toInt32) (pc + 1)) := by
  obtain ⟨p, e, R, s, m, args, below, meth, c, Qf⟩ := Γ
  intro ls st h bc bs k hk H lsA Hp locs cells slots hl hR hS hc hs
  unfold xi_ii at H
  split at H
  · exact lv_iushr hΓ.1 hΓ.2.1 hd rfl (hk _ _ _ _ _ _ H lsA Hp locs cells slots hl hR hS hc hs)
  · exact H.elim
def xi_id (f : Int32 → Int32 → Int32) (n : Nat) : xm_I := fun ls st h bc bs k => match st with
  | .int y :: .int x :: r => ¬ y = 0 ∧ k n ls (.int (f x y) :: r) h bc bs
  | _ => False
theorem xs_idiv (hΓ : xm_ok g Γ M d Q X) (hd : decode M.2.1 pc = .ok (.idiv, 1)) : xm_Imp g Γ pc (xi_id (fun x y => x / y) (pc + 1)) := by
  obtain ⟨p, e, R, s, m, args, below, meth, c, Qf⟩ := Γ
  intro ls st h bc bs k hk H lsA Hp locs cells slots hl hR hS hc hs
  unfold xi_id at H
  split at H
  · obtain ⟨hy, H⟩ := H
    exact lv_idiv hΓ.1 hΓ.2.1 hd hy (hk _ _ _ _ _ _ H lsA Hp locs cells slots hl hR hS hc hs)
  · exact H.elim
theorem xs_irem (hΓ : xm_ok g Γ M d Q X) (hd : decode M.2.1 pc = .ok (.irem, 1)) : xm_Imp g Γ pc (xi_id (fun x y => x - x / y * y) (pc + 1)) := by
  obtain ⟨p, e, R, s, m, args, below, meth, c, Qf⟩ := Γ
  intro ls st h bc bs k hk H lsA Hp locs cells slots hl hR hS hc hs
  unfold xi_id at H
  split at H
  · obtain ⟨hy, H⟩ := H
    exact lv_irem hΓ.1 hΓ.2.1 hd hy (hk _ _ _ _ _ _ H lsA Hp locs cells slots hl hR hS hc hs)
  · exact H.elim
def xi_i1 (f : Int32 → Int32) (n : Nat) : xm_I := fun ls st h bc bs k => match st with
  | .int x :: r => k n ls (.int (f x) :: r) h bc bs
  | _ => False
theorem xs_ineg (hΓ : xm_ok g Γ M d Q X) (hd : decode M.2.1 pc = .ok (.ineg, 1)) : xm_Imp g Γ pc (xi_i1 (fun x => -x) (pc + 1)) := by
  obtain ⟨p, e, R, s, m, args, below, meth, c, Qf⟩ := Γ
  intro ls st h bc bs k hk H lsA Hp locs cells slots hl hR hS hc hs
  unfold xi_i1 at H
  split at H
  · exact lv_ineg hΓ.1 hΓ.2.1 hd (hk _ _ _ _ _ _ H lsA Hp locs cells slots hl hR hS hc hs)
  · exact H.elim
theorem xs_i2b (hΓ : xm_ok g Γ M d Q X) (hd : decode M.2.1 pc = .ok (.i2b, 1)) : xm_Imp g Γ pc (xi_i1 (fun x => x.toInt8.toInt32) (pc + 1)) := by
  obtain ⟨p, e, R, s, m, args, below, meth, c, Qf⟩ := Γ
  intro ls st h bc bs k hk H lsA Hp locs cells slots hl hR hS hc hs
  unfold xi_i1 at H
  split at H
  · exact lv_i2b hΓ.1 hΓ.2.1 hd rfl (hk _ _ _ _ _ _ H lsA Hp locs cells slots hl hR hS hc hs)
  · exact H.elim
theorem xs_i2c (hΓ : xm_ok g Γ M d Q X) (hd : decode M.2.1 pc = .ok (.i2c, 1)) : xm_Imp g Γ pc (xi_i1 (fun x => (x.toUInt32 % 65536).toInt32) (pc + 1)) := by
  obtain ⟨p, e, R, s, m, args, below, meth, c, Qf⟩ := Γ
  intro ls st h bc bs k hk H lsA Hp locs cells slots hl hR hS hc hs
  unfold xi_i1 at H
  split at H
  · exact lv_i2c hΓ.1 hΓ.2.1 hd rfl (hk _ _ _ _ _ _ H lsA Hp locs cells slots hl hR hS hc hs)
  · exact H.elim
theorem xs_i2s (hΓ : xm_ok g Γ M d Q X) (hd : decode M.2.1 pc = .ok (.i2s, 1)) : xm_Imp g Γ pc (xi_i1 (fun x => x.toInt16.toInt32) (pc + 1)) := by
  obtain ⟨p, e, R, s, m, args, below, meth, c, Qf⟩ := Γ
  intro ls st h bc bs k hk H lsA Hp locs cells slots hl hR hS hc hs
  unfold xi_i1 at H
  split at H
  · exact lv_i2s hΓ.1 hΓ.2.1 hd rfl (hk _ _ _ _ _ _ H lsA Hp locs cells slots hl hR hS hc hs)
  · exact H.elim
def xi_i2l (n : Nat) : xm_I := fun ls st h bc bs k => match st with
  | .int x :: r => k n ls (.long x.toInt64 :: r) h bc bs
  | _ => False
theorem xs_i2l (hΓ : xm_ok g Γ M d Q X) (hd : decode M.2.1 pc = .ok (.i2l, 1)) : xm_Imp g Γ pc (xi_i2l (pc + 1)) := by
  obtain ⟨p, e, R, s, m, args, below, meth, c, Qf⟩ := Γ
  intro ls st h bc bs k hk H lsA Hp locs cells slots hl hR hS hc hs
  unfold xi_i2l at H
  split at H
  · exact lv_i2l hΓ.1 hΓ.2.1 hd rfl (hk _ _ _ _ _ _ H lsA Hp locs cells slots hl hR hS hc hs)
  · exact H.elim
def xi_l2i (n : Nat) : xm_I := fun ls st h bc bs k => match st with
  | .long x :: r => k n ls (.int x.toInt32 :: r) h bc bs
  | _ => False
theorem xs_l2i (hΓ : xm_ok g Γ M d Q X) (hd : decode M.2.1 pc = .ok (.l2i, 1)) : xm_Imp g Γ pc (xi_l2i (pc + 1)) := by
  obtain ⟨p, e, R, s, m, args, below, meth, c, Qf⟩ := Γ
  intro ls st h bc bs k hk H lsA Hp locs cells slots hl hR hS hc hs
  unfold xi_l2i at H
  split at H
  · exact lv_l2i hΓ.1 hΓ.2.1 hd rfl (hk _ _ _ _ _ _ H lsA Hp locs cells slots hl hR hS hc hs)
  · exact H.elim
def xi_lsub (n : Nat) : xm_I := fun ls st h bc bs k => match st with
  | .long y :: .long x :: r => k n ls (.long (x - y) :: r) h bc bs
  | _ => False
theorem xs_lsub (hΓ : xm_ok g Γ M d Q X) (hd : decode M.2.1 pc = .ok (.lsub, 1)) : xm_Imp g Γ pc (xi_lsub (pc + 1)) := by
  obtain ⟨p, e, R, s, m, args, below, meth, c, Qf⟩ := Γ
  intro ls st h bc bs k hk H lsA Hp locs cells slots hl hR hS hc hs
  unfold xi_lsub at H
  split at H
  · exact lv_lsub hΓ.1 hΓ.2.1 hd (hk _ _ _ _ _ _ H lsA Hp locs cells slots hl hR hS hc hs)
  · exact H.elim
def xi_lcmp (n : Nat) : xm_I := fun ls st h bc bs k => match st with
  | .long y :: .long x :: r => k n ls (.int (lg_cmp x y) :: r) h bc bs
  | _ => False
theorem xs_lcmp (hΓ : xm_ok g Γ M d Q X) (hd : decode M.2.1 pc = .ok (.lcmp, 1)) : xm_Imp g Γ pc (xi_lcmp (pc + 1)) := by
  obtain ⟨p, e, R, s, m, args, below, meth, c, Qf⟩ := Γ
  intro ls st h bc bs k hk H lsA Hp locs cells slots hl hR hS hc hs
  unfold xi_lcmp at H
  split at H
  · exact W.lcmp hΓ.1 hΓ.2.1 hd (hk _ _ _ _ _ _ H lsA Hp locs cells slots hl hR hS hc hs)
  · exact H.elim
def xi_i2f (n : Nat) : xm_I := fun ls st h bc bs k => match st with
  | .int x :: r => k n ls (.float (FP.i2f x) :: r) h bc bs
  | _ => False
theorem xs_i2f (hΓ : xm_ok g Γ M d Q X) (hd : decode M.2.1 pc = .ok (.i2f, 1)) : xm_Imp g Γ pc (xi_i2f (pc + 1)) := by
  obtain ⟨p, e, R, s, m, args, below, meth, c, Qf⟩ := Γ
  intro ls st h bc bs k hk H lsA Hp locs cells slots hl hR hS hc hs
  unfold xi_i2f at H
  split at H
  · exact lv_i2f hΓ.1 hΓ.2.1 hd (hk _ _ _ _ _ _ H lsA Hp locs cells slots hl hR hS hc hs)
  · exact H.elim
def xi_i2d (n : Nat) : xm_I := fun ls st h bc bs k => match st with
  | .int x :: r => k n ls (.double (FP.i2d x) :: r) h bc bs
  | _ => False
theorem xs_i2d (hΓ : xm_ok g Γ M d Q X) (hd : decode M.2.1 pc = .ok (.i2d, 1)) : xm_Imp g Γ pc (xi_i2d (pc + 1)) := by
  obtain ⟨p, e, R, s, m, args, below, meth, c, Qf⟩ := Γ
  intro ls st h bc bs k hk H lsA Hp locs cells slots hl hR hS hc hs
  unfold xi_i2d at H
  split at H
  · exact lv_i2d hΓ.1 hΓ.2.1 hd (hk _ _ _ _ _ _ H lsA Hp locs cells slots hl hR hS hc hs)
  · exact H.elim
def xi_f2d (n : Nat) : xm_I := fun ls st h bc bs k => match st with
  | .float x :: r => vf_n64 (FP.f2d x) ∧ k n ls (.double (FP.f2d x) :: r) h bc bs
  | _ => False
theorem xs_f2d (hΓ : xm_ok g Γ M d Q X) (hd : decode M.2.1 pc = .ok (.f2d, 1)) : xm_Imp g Γ pc (xi_f2d (pc + 1)) := by
  obtain ⟨p, e, R, s, m, args, below, meth, c, Qf⟩ := Γ
  intro ls st h bc bs k hk H lsA Hp locs cells slots hl hR hS hc hs
  unfold xi_f2d at H
  split at H
  · obtain ⟨hy, H⟩ := H
    exact lv_f2d hΓ.1 hΓ.2.1 hd hy (hk _ _ _ _ _ _ H lsA Hp locs cells slots hl hR hS hc hs)
  · exact H.elim
def xi_fdiv (n : Nat) : xm_I := fun ls st h bc bs k => match st with
  | .float y :: .float x :: r => vf_n32 (FP.fdiv x y) ∧ k n ls (.float (FP.fdiv x y) :: r) h bc bs
  | _ => False
theorem xs_fdiv (hΓ : xm_ok g Γ M d Q X) (hd : decode M.2.1 pc = .ok (.fdiv, 1)) : xm_Imp g Γ pc (xi_fdiv (pc + 1)) := by
  obtain ⟨p, e, R, s, m, args, below, meth, c, Qf⟩ := Γ
  intro ls st h bc bs k hk H lsA Hp locs cells slots hl hR hS hc hs
  unfold xi_fdiv at H
  split at H
  · obtain ⟨hy, H⟩ := H
    exact lv_fdiv hΓ.1 hΓ.2.1 hd hy (hk _ _ _ _ _ _ H lsA Hp locs cells slots hl hR hS hc hs)
  · exact H.elim
def xi_ddiv (n : Nat) : xm_I := fun ls st h bc bs k => match st with
  | .double y :: .double x :: r => vf_n64 (FP.ddiv x y) ∧ k n ls (.double (FP.ddiv x y) :: r) h bc bs
  | _ => False
theorem xs_ddiv (hΓ : xm_ok g Γ M d Q X) (hd : decode M.2.1 pc = .ok (.ddiv, 1)) : xm_Imp g Γ pc (xi_ddiv (pc + 1)) := by
  obtain ⟨p, e, R, s, m, args, below, meth, c, Qf⟩ := Γ
  intro ls st h bc bs k hk H lsA Hp locs cells slots hl hR hS hc hs
  unfold xi_ddiv at H
  split at H
  · obtain ⟨hy, H⟩ := H
    exact lv_ddiv hΓ.1 hΓ.2.1 hd hy (hk _ _ _ _ _ _ H lsA Hp locs cells slots hl hR hS hc hs)
  · exact H.elim
def xi_fcmp (op : CmpOp) (n : Nat) : xm_I := fun ls st h bc bs k => match st with
  | .float y :: .float x :: r => k n ls (.int (Op.cmpValue (FP.fcmp x y) op) :: r) h bc bs
  | _ => False
theorem xs_fcmp (hΓ : xm_ok g Γ M d Q X) {op : CmpOp} (hd : decode M.2.1 pc = .ok (.fcmp op, 1)) : xm_Imp g Γ pc (xi_fcmp op (pc + 1)) := by
  obtain ⟨p, e, R, s, m, args, below, meth, c, Qf⟩ := Γ
  intro ls st h bc bs k hk H lsA Hp locs cells slots hl hR hS hc hs
  unfold xi_fcmp at H
  split at H
  · exact lv_fcmp hΓ.1 hΓ.2.1 hd (hk _ _ _ _ _ _ H lsA Hp locs cells slots hl hR hS hc hs)
  · exact H.elim
def xi_dcmp (op : CmpOp) (n : Nat) : xm_I := fun ls st h bc bs k => match st with
  | .double y :: .double x :: r => k n ls (.int (Op.cmpValue (FP.dcmp x y) op) :: r) h bc bs
  | _ => False
theorem xs_dcmp (hΓ : xm_ok g Γ M d Q X) {op : CmpOp} (hd : decode M.2.1 pc = .ok (.dcmp op, 1)) : xm_Imp g Γ pc (xi_dcmp op (pc + 1)) := by
  obtain ⟨p, e, R, s, m, args, below, meth, c, Qf⟩ := Γ
  intro ls st h bc bs k hk H lsA Hp locs cells slots hl hR hS hc hs
  unfold xi_dcmp at H
  split at H
  · exact lv_dcmp hΓ.1 hΓ.2.1 hd (hk _ _ _ _ _ _ H lsA Hp locs cells slots hl hR hS hc hs)
  · exact H.elim
def xm_c1 (v : Value) : Bool := match v with
  | .long _ => false
  | .double _ => false
  | _ => true
theorem xm_c1_of {v : Value} (h : xm_c1 v = true) : v.category = 1 := by
  cases v <;> first | rfl | cases h
def xi_dup (n : Nat) : xm_I := fun ls st h bc bs k => match st with
  | v :: r => xm_c1 v = true ∧ k n ls (v :: v :: r) h bc bs
  | _ => False
theorem xs_dup (hΓ : xm_ok g Γ M d Q X) (hd : decode M.2.1 pc = .ok (.dup, 1)) : xm_Imp g Γ pc (xi_dup (pc + 1)) := by
  obtain ⟨p, e, R, s, m, args, below, meth, c, Qf⟩ := Γ
  intro ls st h bc bs k hk H lsA Hp locs cells slots hl hR hS hc hs
  unfold xi_dup at H
  split at H
  · obtain ⟨hy, H⟩ := H
    exact lv_dup hΓ.1 hΓ.2.1 hd (xm_c1_of hy) (hk _ _ _ _ _ _ H lsA Hp locs cells slots hl hR hS hc hs)
  · exact H.elim
def xi_pop (n : Nat) : xm_I := fun ls st h bc bs k => match st with
  | v :: r => xm_c1 v = true ∧ k n ls r h bc bs
  | _ => False
theorem xs_pop (hΓ : xm_ok g Γ M d Q X) (hd : decode M.2.1 pc = .ok (.pop, 1)) : xm_Imp g Γ pc (xi_pop (pc + 1)) := by
  obtain ⟨p, e, R, s, m, args, below, meth, c, Qf⟩ := Γ
  intro ls st h bc bs k hk H lsA Hp locs cells slots hl hR hS hc hs
  unfold xi_pop at H
  split at H
  · obtain ⟨hy, H⟩ := H
    exact lv_pop hΓ.1 hΓ.2.1 hd (xm_c1_of hy) (hk _ _ _ _ _ _ H lsA Hp locs cells slots hl hR hS hc hs)
  · exact H.elim
def xi_dup_x1 (n : Nat) : xm_I := fun ls st h bc bs k => match st with
  | v :: w :: r => (xm_c1 v = true ∧ xm_c1 w = true) ∧ k n ls (v :: w :: v :: r) h bc bs
  | _ => False
theorem xs_dup_x1 (hΓ : xm_ok g Γ M d Q X) (hd : decode M.2.1 pc = .ok (.dup_x1, 1)) : xm_Imp g Γ pc (xi_dup_x1 (pc + 1)) := by
  obtain ⟨p, e, R, s, m, args, below, meth, c, Qf⟩ := Γ
  intro ls st h bc bs k hk H lsA Hp locs cells slots hl hR hS hc hs
  unfold xi_dup_x1 at H
  split at H
  · obtain ⟨hy, H⟩ := H
    exact lv_dup_x1 hΓ.1 hΓ.2.1 hd (xm_c1_of hy.1) (xm_c1_of hy.2) (hk _ _ _ _ _ _ H lsA Hp locs cells slots hl hR hS hc hs)
  · exact H.elim
def xi_if (q : Int32 → Prop) (t n : Nat) : xm_I := fun ls st h bc bs k => match st with
  | .int x :: r => (q x → k t ls r h bc bs) ∧ (¬ q x → k n ls r h bc bs)
  | _ => False
theorem xs_if_eq (hΓ : xm_ok g Γ M d Q X) {off : Int} {tgt : Nat} (hd : decode M.2.1 pc = .ok (.ifCond .eq off, 3)) (ht : (pc : Int) + off = (tgt : Int)) : xm_Imp g Γ pc (xi_if (fun x => x = 0) tgt (pc + 3)) := by
  obtain ⟨p, e, R, s, m, args, below, meth, c, Qf⟩ := Γ
  intro ls st h bc bs k hk H lsA Hp locs cells slots hl hR hS hc hs
  unfold xi_if at H
  split at H
  · exact lv_if_eq hΓ.1 hΓ.2.1 hd ht (fun c0 => hk _ _ _ _ _ _ (H.1 c0) lsA Hp locs cells slots hl hR hS hc hs) (fun c0 => hk _ _ _ _ _ _ (H.2 c0) lsA Hp locs cells slots hl hR hS hc hs)
  · exact H.elim
theorem xs_if_ne (hΓ : xm_ok g Γ M d Q X) {off : Int} {tgt : Nat} (hd : decode M.2.1 pc = .ok (.ifCond .ne off, 3)) (ht : (pc : Int) + off = (tgt : Int)) : xm_Imp g Γ pc (xi_if (fun x => x = 0) (pc + 3) tgt) := by
  obtain ⟨p, e, R, s, m, args, below, meth, c, Qf⟩ := Γ
  intro ls st h bc bs k hk H lsA Hp locs cells slots hl hR hS hc hs
  unfold xi_if at H
  split at H
  · exact lv_if_ne hΓ.1 hΓ.2.1 hd ht (fun c0 => hk _ _ _ _ _ _ (H.2 c0) lsA Hp locs cells slots hl hR hS hc hs) (fun c0 => hk _ _ _ _ _ _ (H.1 c0) lsA Hp locs cells slots hl hR hS hc hs)
  · exact H.elim
theorem xs_if_lt (hΓ : xm_ok g Γ M d Q X) {off : Int} {tgt : Nat} (hd : decode M.2.1 pc = .ok (.ifCond .lt off, 3)) (ht : (pc : Int) + off = (tgt : Int)) : xm_Imp g Γ pc (xi_if (fun x => x < 0) tgt (pc + 3)) := by
  obtain ⟨p, e, R, s, m, args, below, meth, c, Qf⟩ := Γ
  intro ls st h bc bs k hk H lsA Hp locs cells slots hl hR hS hc hs
  unfold xi_if at H
  split at H
  · exact lv_if_lt hΓ.1 hΓ.2.1 hd ht (fun c0 => hk _ _ _ _ _ _ (H.1 c0) lsA Hp locs cells slots hl hR hS hc hs) (fun c0 => hk _ _ _ _ _ _ (H.2 c0) lsA Hp locs cells slots hl hR hS hc hs)
  · exact H.elim
theorem xs_if_ge (hΓ : xm_ok g Γ M d Q X) {off : Int} {tgt : Nat} (hd : decode M.2.1 pc = .ok (.ifCond .ge off, 3)) (ht : (pc : Int) + off = (tgt : Int)) : xm_Imp g Γ pc (xi_if (fun x => 0 ≤ x) tgt (pc + 3)) := by
  obtain ⟨p, e, R, s, m, args, below, meth, c, Qf⟩ := Γ
  intro ls st h bc bs k hk H lsA Hp locs cells slots hl hR hS hc hs
  unfold xi_if at H
  split at H
  · exact lv_if_ge hΓ.1 hΓ.2.1 hd ht (fun c0 => hk _ _ _ _ _ _ (H.1 c0) lsA Hp locs cells slots hl hR hS hc hs) (fun c0 => hk _ _ _ _ _ _ (H.2 c0) lsA Hp locs cells slots hl hR hS hc hs)
  · exact H.elim
theorem xs_if_gt (hΓ : xm_ok g Γ M d Q X) {off : Int} {tgt : Nat} (hd : decode M.2.1 pc = .ok (.ifCond .gt off, 3)) (ht : (pc : Int) + off = (tgt : Int)) : xm_Imp g Γ pc (xi_if (fun x => 0 < x) tgt (pc + 3)) := by
  obtain ⟨p, e, R, s, m, args, below, meth, c, Qf⟩ := Γ
  intro ls st h bc bs k hk H lsA Hp locs cells slots hl hR hS hc hs
  unfold xi_if at H
  split at H
  · exact lv_if_gt hΓ.1 hΓ.2.1 hd ht (fun c0 => hk _ _ _ _ _ _ (H.1 c0) lsA Hp locs cells slots hl hR hS hc hs) (fun c0 => hk _ _ _ _ _ _ (H.2 c0) lsA Hp locs cells slots hl hR hS hc hs)
  · exact H.elim
theorem xs_if_le (hΓ : xm_ok g Γ M d Q X) {off : Int} {tgt : Nat} (hd : decode M.2.1 pc = .ok (.ifCond .le off, 3)) (ht : (pc : Int) + off = (tgt : Int)) : xm_Imp g Γ pc (xi_if (fun x => x ≤ 0) tgt (pc + 3)) := by
  obtain ⟨p, e, R, s, m, args, below, meth, c, Qf⟩ := Γ
  intro ls st h bc bs k hk H lsA Hp locs cells slots hl hR hS hc hs
  unfold xi_if at H
  split at H
  · exact lv_if_le hΓ.1 hΓ.2.1 hd ht (fun c0 => hk _ _ _ _ _ _ (H.1 c0) lsA Hp locs cells slots hl hR hS hc hs) (fun c0 => hk _ _ _ _ _ _ (H.2 c0) lsA Hp locs cells slots hl hR hS hc hs)
  · exact H.elim
def xi_ic (q : Int32 → Int32 → Prop) (t n : Nat) : xm_I := fun ls st h bc bs k => match st with
  | .int y :: .int x :: r => (q x y → k t ls r h bc bs) ∧ (¬ q x y → k n ls r h bc bs)
  | _ => False
theorem xs_icmp_eq (hΓ : xm_ok g Γ M d Q X) {off : Int} {tgt : Nat} (hd : decode M.2.1 pc = .ok (.if_icmp .eq off, 3)) (ht : (pc : Int) + off = (tgt : Int)) : xm_Imp g Γ pc (xi_ic (fun x y => x = y) tgt (pc + 3)) := by
  obtain ⟨p, e, R, s, m, args, below, meth, c, Qf⟩ := Γ
  intro ls st h bc bs k hk H lsA Hp locs cells slots hl hR hS hc hs
  unfold xi_ic at H
  split at H
  · exact lv_icmp_eq hΓ.1 hΓ.2.1 hd ht (fun c0 => hk _ _ _ _ _ _ (H.1 c0) lsA Hp locs cells slots hl hR hS hc hs) (fun c0 => hk _ _ _ _ _ _ (H.2 c0) lsA Hp locs cells slots hl hR hS hc hs)
  · exact H.elim
theorem xs_icmp_ne (hΓ : xm_ok g Γ M d Q X) {off : Int} {tgt : Nat} (hd : decode M.2.1 pc = .ok (.if_icmp .ne off, 3)) (ht : (pc : Int) + off = (tgt : Int)) : xm_Imp g Γ pc (xi_ic (fun x y => x = y) (pc + 3) tgt) := by
  obtain ⟨p, e, R, s, m, args, below, meth, c, Qf⟩ := Γ
  intro ls st h bc bs k hk H lsA Hp locs cells slots hl hR hS hc hs
  unfold xi_ic at H
  split at H
  · exact lv_icmp_ne hΓ.1 hΓ.2.1 hd ht (fun c0 => hk _ _ _ _ _ _ (H.2 c0) lsA Hp locs cells slots hl hR hS hc hs) (fun c0 => hk _ _ _ _ _ _ (H.1 c0) lsA Hp locs cells slots hl hR hS hc hs)
  · exact H.elim
theorem xs_icmp_lt (hΓ : xm_ok g Γ M d Q X) {off : Int} {tgt : Nat} (hd : decode M.2.1 pc = .ok (.if_icmp .lt off, 3)) (ht : (pc : Int) + off = (tgt : Int)) : xm_Imp g Γ pc (xi_ic (fun x y => x < y) tgt (pc + 3)) := by
  obtain ⟨p, e, R, s, m, args, below, meth, c, Qf⟩ := Γ
  intro ls st h bc bs k hk H lsA Hp locs cells slots hl hR hS hc hs
  unfold xi_ic at H
  split at H
  · exact lv_icmp_lt hΓ.1 hΓ.2.1 hd ht (fun c0 => hk _ _ _ _ _ _ (H.1 c0) lsA Hp locs cells slots hl hR hS hc hs) (fun c0 => hk _ _ _ _ _ _ (H.2 c0) lsA Hp locs cells slots hl hR hS hc hs)
  · exact H.elim
theorem xs_icmp_ge (hΓ : xm_ok g Γ M d Q X) {off : Int} {tgt : Nat} (hd : decode M.2.1 pc = .ok (.if_icmp .ge off, 3)) (ht : (pc : Int) + off = (tgt : Int)) : xm_Imp g Γ pc (xi_ic (fun x y => y ≤ x) tgt (pc + 3)) := by
  obtain ⟨p, e, R, s, m, args, below, meth, c, Qf⟩ := Γ
  intro ls st h bc bs k hk H lsA Hp locs cells slots hl hR hS hc hs
  unfold xi_ic at H
  split at H
  · exact lv_icmp_ge hΓ.1 hΓ.2.1 hd ht (fun c0 => hk _ _ _ _ _ _ (H.1 c0) lsA Hp locs cells slots hl hR hS hc hs) (fun c0 => hk _ _ _ _ _ _ (H.2 c0) lsA Hp locs cells slots hl hR hS hc hs)
  · exact H.elim
theorem xs_icmp_gt (hΓ : xm_ok g Γ M d Q X) {off : Int} {tgt : Nat} (hd : decode M.2.1 pc = .ok (.if_icmp .gt off, 3)) (ht : (pc : Int) + off = (tgt : Int)) : xm_Imp g Γ pc (xi_ic (fun x y => y < x) tgt (pc + 3)) := by
  obtain ⟨p, e, R, s, m, args, below, meth, c, Qf⟩ := Γ
  intro ls st h bc bs k hk H lsA Hp locs cells slots hl hR hS hc hs
  unfold xi_ic at H
  split at H
  · exact lv_icmp_gt hΓ.1 hΓ.2.1 hd ht (fun c0 => hk _ _ _ _ _ _ (H.1 c0) lsA Hp locs cells slots hl hR hS hc hs) (fun c0 => hk _ _ _ _ _ _ (H.2 c0) lsA Hp locs cells slots hl hR hS hc hs)
  · exact H.elim
theorem xs_icmp_le (hΓ : xm_ok g Γ M d Q X) {off : Int} {tgt : Nat} (hd : decode M.2.1 pc = .ok (.if_icmp .le off, 3)) (ht : (pc : Int) + off = (tgt : Int)) : xm_Imp g Γ pc (xi_ic (fun x y => x ≤ y) tgt (pc + 3)) := by
  obtain ⟨p, e, R, s, m, args, below, meth, c, Qf⟩ := Γ
  intro ls st h bc bs k hk H lsA Hp locs cells slots hl hR hS hc hs
  unfold xi_ic at H
  split at H
  · exact lv_icmp_le hΓ.1 hΓ.2.1 hd ht (fun c0 => hk _ _ _ _ _ _ (H.1 c0) lsA Hp locs cells slots hl hR hS hc hs) (fun c0 => hk _ _ _ _ _ _ (H.2 c0) lsA Hp locs cells slots hl hR hS hc hs)
  · exact H.elim
def xi_goto (t : Nat) : xm_I := fun ls st h bc bs k => k t ls st h bc bs
theorem xs_goto (hΓ : xm_ok g Γ M d Q X) {off : Int} {tgt : Nat} (hd : decode M.2.1 pc = .ok (.goto off, 3)) (ht : (pc : Int) + off = (tgt : Int)) : xm_Imp g Γ pc (xi_goto tgt) := by
  obtain ⟨p, e, R, s, m, args, below, meth, c, Qf⟩ := Γ
  intro ls st h bc bs k hk H lsA Hp locs cells slots hl hR hS hc hs
  exact lv_goto hΓ.1 hΓ.2.1 hd ht (hk _ _ _ _ _ _ H lsA Hp locs cells slots hl hR hS hc hs)
def xi_nul (t n : Nat) : xm_I := fun ls st h bc bs k => match st with
  | .null :: r => k t ls r h bc bs
  | .ref _ :: r => k n ls r h bc bs
  | _ => False
theorem xs_ifnull (hΓ : xm_ok g Γ M d Q X) {off : Int} {tgt : Nat} (hd : decode M.2.1 pc = .ok (.ifnull off, 3)) (ht : (pc : Int) + off = (tgt : Int)) : xm_Imp g Γ pc (xi_nul tgt (pc + 3)) := by
  obtain ⟨p, e, R, s, m, args, below, meth, c, Qf⟩ := Γ
  intro ls st h bc bs k hk H lsA Hp locs cells slots hl hR hS hc hs
  unfold xi_nul at H
  split at H
  · exact lv_ifnullN hΓ.1 hΓ.2.1 hd ht (hk _ _ _ _ _ _ H lsA Hp locs cells slots hl hR hS hc hs)
  · exact lv_ifnull hΓ.1 hΓ.2.1 hd (hk _ _ _ _ _ _ H lsA Hp locs cells slots hl hR hS hc hs)
  · exact H.elim
theorem xs_ifnonnull (hΓ : xm_ok g Γ M d Q X) {off : Int} {tgt : Nat} (hd : decode M.2.1 pc = .ok (.ifnonnull off, 3)) (ht : (pc : Int) + off = (tgt : Int)) : xm_Imp g Γ pc (xi_nul (pc + 3) tgt) := by
  obtain ⟨p, e, R, s, m, args, below, meth, c, Qf⟩ := Γ
  intro ls st h bc bs k hk H lsA Hp locs cells slots hl hR hS hc hs
  unfold xi_nul at H
  split at H
  · exact lv_ifnonnullN hΓ.1 hΓ.2.1 hd (hk _ _ _ _ _ _ H lsA Hp locs cells slots hl hR hS hc hs)
  · exact lv_ifnonnull hΓ.1 hΓ.2.1 hd ht (hk _ _ _ _ _ _ H lsA Hp locs cells slots hl hR hS hc hs)
  · exact H.elim
def xm_or (v : Value) : Option (Option Nat) := match v with
  | .null => some none
  | .ref a => some (some a)
  | _ => none
theorem xm_or_of {v : Value} {o : Option Nat} (h : xm_or v = some o) : v = va_rf o := by
  cases v <;> first | (cases h; rfl) | cases h
def xi_acm (t n : Nat) : xm_I := fun ls st h bc bs k => match st with
  | y :: x :: r => ∃ a b : Option Nat, xm_or x = some a ∧ xm_or y = some b ∧ (a = b → k t ls r h bc bs) ∧ (¬ a = b → k n ls r h bc bs)
  | _ => False
theorem xs_acmp_eq (hΓ : xm_ok g Γ M d Q X) {off : Int} {tgt : Nat} (hd : decode M.2.1 pc = .ok (.if_acmp .eq off, 3)) (ht : (pc : Int) + off = (tgt : Int)) : xm_Imp g Γ pc (xi_acm tgt (pc + 3)) := by
  obtain ⟨p, e, R, s, m, args, below, meth, c, Qf⟩ := Γ
  intro ls st h bc bs k hk H lsA Hp locs cells slots hl hR hS hc hs
  unfold xi_acm at H
  split at H
  · obtain ⟨a, b, ea, eb, H⟩ := H
    rw [xm_or_of ea, xm_or_of eb]
    exact lv_acmp_eq hΓ.1 hΓ.2.1 hd ht (fun c0 => hk _ _ _ _ _ _ (H.1 c0) lsA Hp locs cells slots hl hR hS hc hs) (fun c0 => hk _ _ _ _ _ _ (H.2 c0) lsA Hp locs cells slots hl hR hS hc hs)
  · exact H.elim
theorem xs_acmp_ne (hΓ : xm_ok g Γ M d Q X) {off : Int} {tgt : Nat} (hd : decode M.2.1 pc = .ok (.if_acmp .ne off, 3)) (ht : (pc : Int) + off = (tgt : Int)) : xm_Imp g Γ pc (xi_acm (pc + 3) tgt) := by
  obtain ⟨p, e, R, s, m, args, below, meth, c, Qf⟩ := Γ
  intro ls st h bc bs k hk H lsA Hp locs cells slots hl hR hS hc hs
  unfold xi_acm at H
  split at H
  · obtain ⟨a, b, ea, eb, H⟩ := H
    rw [xm_or_of ea, xm_or_of eb]
    exact lv_acmp_ne hΓ.1 hΓ.2.1 hd ht (fun c0 => hk _ _ _ _ _ _ (H.2 c0) lsA Hp locs cells slots hl hR hS hc hs) (fun c0 => hk _ _ _ _ _ _ (H.1 c0) lsA Hp locs cells slots hl hR hS hc hs)
  · exact H.elim
def xi_tsw (lo hi : Int) (tg : List Nat) (dt : Nat) : xm_I := fun ls st h bc bs k => match st with
  | .int x :: r => (∀ (i t : Nat), tg[i]? = some t → x.toInt = lo + i → k t ls r h bc bs) ∧ ((x.toInt < lo ∨ hi < x.toInt) → k dt ls r h bc bs)
  | _ => False
theorem xs_tsw (hΓ : xm_ok g Γ M d Q X) {dflt lo hi : Int} {offs : Array Int} {len dt : Nat} {tg : List Nat} (hd : decode M.2.1 pc = .ok (.tableswitch dflt lo hi offs, len)) (hdt : (pc : Int) + dflt = (dt : Int)) (hn : (tg.length : Int) = hi - lo + 1) (htg : offs.toList.map (fun o => (pc : Int) + o) = tg.map (fun t : Nat => (t : Int))) : xm_Imp g Γ pc (xi_tsw lo hi tg dt) := by
  obtain ⟨p, e, R, s, m, args, below, meth, c, Qf⟩ := Γ
  intro ls st h bc bs k hk H lsA Hp locs cells slots hl hR hS hc hs
  unfold xi_tsw at H
  split at H
  · next x r =>
    by_cases h1 : x.toInt < lo ∨ hi < x.toInt
    · exact lv_tableOut hΓ.1 hΓ.2.1 hd h1 hdt (hk _ _ _ _ _ _ (H.2 h1) lsA Hp locs cells slots hl hR hS hc hs)
    · have h2 : ¬ x.toInt < lo := fun z => h1 (Or.inl z)
      have h3 : ¬ hi < x.toInt := fun z => h1 (Or.inr z)
      have hlt : (x.toInt - lo).toNat < tg.length := by omega
      have e1 : (offs.toList.map (fun o => (pc : Int) + o))[(x.toInt - lo).toNat]? = some ((tg[(x.toInt - lo).toNat] : Nat) : Int) := by
        rw [htg, List.getElem?_map, List.getElem?_eq_getElem hlt]
        rfl
      rw [List.getElem?_map] at e1
      cases ho : offs.toList[(x.toInt - lo).toNat]? with
      | none => rw [ho] at e1; cases e1
      | some off =>
        rw [ho] at e1
        refine lv_tableIn hΓ.1 hΓ.2.1 hd h2 h3 (off := off) (by rw [← Array.getElem?_toList]; exact ho) (Option.some.inj e1) (hk _ _ _ _ _ _ (H.1 _ _ (List.getElem?_eq_getElem hlt) (by omega)) lsA Hp locs cells slots hl hR hS hc hs)
  · exact H.elim
def xi_lsw (f : Int → Nat) : xm_I := fun ls st h bc bs k => match st with
  | .int x :: r => k (f x.toInt) ls r h bc bs
  | _ => False
theorem xs_lsw (hΓ : xm_ok g Γ M d Q X) {dflt : Int} {ps : Array (Int × Int)} {len : Nat} {f : Int → Nat} (hd : decode M.2.1 pc = .ok (.lookupswitch dflt ps, len)) (hp : (ps.toList.zip (ps.toList.drop 1)).all (fun (a, next) => a.1 < next.1) = true) (hf : ∀ z : Int, (pc : Int) + Op.lookupswitch.offset ps.toList dflt z = (f z : Int)) : xm_Imp g Γ pc (xi_lsw f) := by
  obtain ⟨p, e, R, s, m, args, below, meth, c, Qf⟩ := Γ
  intro ls st h bc bs k hk H lsA Hp locs cells slots hl hR hS hc hs
  unfold xi_lsw at H
  split at H
  · exact lv_lookup hΓ.1 hΓ.2.1 hd hp rfl (hf _) (hk _ _ _ _ _ _ H lsA Hp locs cells slots hl hR hS hc hs)
  · exact H.elim
def xi_iret (ty : FieldType) (Q : xm_P) : xm_I := fun _ st h _ _ _ => match st with
  | [.int v] => narrow ty (.int v) = .int v ∧ Q (some (.int v)) h
  | _ => False
theorem xs_ireturn (hΓ : xm_ok g Γ M d Q X) {ty : FieldType} (hty : M.2.2.2.1 = some ty) (hd : decode M.2.1 pc = .ok (.ireturn, 1)) : xm_Imp g Γ pc (xi_iret ty Q) := by
  obtain ⟨p, e, R, s, m, args, below, meth, c, Qf⟩ := Γ
  intro ls st h bc bs k hk H lsA Hp locs cells slots hl hR hS hc hs
  unfold xi_iret at H
  split at H
  · obtain ⟨hn, H⟩ := H
    obtain ⟨hx, hb, hml, hr, ho, hnm, hlk, htb, hW, hB0, hRf, hRl, rfl⟩ := hΓ
    refine W.widen (k := R.cells) (n := R.slots) (by omega) (by omega) (vq_ret ?_)
    exact W.zret hx hb (hr.trans hty) hn (fun t ht hW => ⟨_, h, rfl, H, by rw [ht]; exact hR, hS.F ht⟩) hS.2.2 hd hlk
  · exact H.elim
def xi_vret (Q : xm_P) : xm_I := fun _ st h _ _ _ => match st with
  | [] => Q none h
  | _ => False
theorem xs_return (hΓ : xm_ok g Γ M d Q X) (hty : M.2.2.2.1 = none) (hd : decode M.2.1 pc = .ok (.return_, 1)) : xm_Imp g Γ pc (xi_vret Q) := by
  obtain ⟨p, e, R, s, m, args, below, meth, c, Qf⟩ := Γ
  intro ls st h bc bs k hk H lsA Hp locs cells slots hl hR hS hc hs
  unfold xi_vret at H
  split at H
  · obtain ⟨hx, hb, hml, hr, ho, hnm, hlk, htb, hW, hB0, hRf, hRl, rfl⟩ := hΓ
    refine W.widen (k := R.cells) (n := R.slots) (by omega) (by omega) (vq_ret ?_)
    exact W.vret hx hb (hr.trans hty) (fun t ht hW => ⟨_, h, rfl, H, by rw [ht]; exact hR, hS.F ht⟩) hS.2.2 hd hlk
  · exact H.elim
def xi_aret (Q : xm_P) : xm_I := fun _ st h _ _ _ => match st with
  | [v] => (v = .null ∨ ∃ a, v = .ref a) ∧ Q (some v) h
  | _ => False
theorem xs_areturn (hΓ : xm_ok g Γ M d Q X) {rt : FieldType} (hty : M.2.2.2.1 = some rt) (hrt : (∃ n, rt = .object n) ∨ ∃ t, rt = .array t) (hd : decode M.2.1 pc = .ok (.areturn, 1)) : xm_Imp g Γ pc (xi_aret Q) := by
  obtain ⟨p, e, R, s, m, args, below, meth, c, Qf⟩ := Γ
  intro ls st h bc bs k hk H lsA Hp locs cells slots hl hR hS hc hs
  unfold xi_aret at H
  split at H
  · obtain ⟨hv, H⟩ := H
    obtain ⟨hx, hb, hml, hr, ho, hnm, hlk, htb, hW, hB0, hRf, hRl, rfl⟩ := hΓ
    refine W.widen (k := R.cells) (n := R.slots) (by omega) (by omega) (vq_ret ?_)
    exact W.aret hx hb (hr.trans hty) hrt hv (fun t ht hW => ⟨_, h, rfl, H, by rw [ht]; exact hR, hS.F ht⟩) hS.2.2 hd hlk
  · exact H.elim
def xi_fret (Q : xm_P) : xm_I := fun _ st h _ _ _ => match st with
  | [.float v] => Q (some (.float v)) h
  | _ => False
theorem xs_freturn (hΓ : xm_ok g Γ M d Q X) (hty : M.2.2.2.1 = some .float) (hd : decode M.2.1 pc = .ok (.freturn, 1)) : xm_Imp g Γ pc (xi_fret Q) := by
  obtain ⟨p, e, R, s, m, args, below, meth, c, Qf⟩ := Γ
  intro ls st h bc bs k hk H lsA Hp locs cells slots hl hR hS hc hs
  unfold xi_fret at H
  split at H
  · obtain ⟨hx, hb, hml, hr, ho, hnm, hlk, htb, hW, hB0, hRf, hRl, rfl⟩ := hΓ
    refine W.widen (k := R.cells) (n := R.slots) (by omega) (by omega) (vq_ret ?_)
    exact W.fret hx hb (hr.trans hty) (fun t ht hW => ⟨_, h, rfl, H, by rw [ht]; exact hR, hS.F ht⟩) hS.2.2 hd hlk
  · exact H.elim
def xi_dret (Q : xm_P) : xm_I := fun _ st h _ _ _ => match st with
  | [.double v] => Q (some (.double v)) h
  | _ => False
theorem xs_dreturn (hΓ : xm_ok g Γ M d Q X) (hty : M.2.2.2.1 = some .double) (hd : decode M.2.1 pc = .ok (.dreturn, 1)) : xm_Imp g Γ pc (xi_dret Q) := by
  obtain ⟨p, e, R, s, m, args, below, meth, c, Qf⟩ := Γ
  intro ls st h bc bs k hk H lsA Hp locs cells slots hl hR hS hc hs
  unfold xi_dret at H
  split at H
  · obtain ⟨hx, hb, hml, hr, ho, hnm, hlk, htb, hW, hB0, hRf, hRl, rfl⟩ := hΓ
    refine W.widen (k := R.cells) (n := R.slots) (by omega) (by omega) (vq_ret ?_)
    exact W.dret hx hb (hr.trans hty) (fun t ht hW => ⟨_, h, rfl, H, by rw [ht]; exact hR, hS.F ht⟩) hS.2.2 hd hlk
  · exact H.elim
end XS2
