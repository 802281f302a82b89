/-! STRINGS of one byte a sign: length and charAt -/
set_option maxRecDepth 100000
/-- a string of N signs whose bytes are f -/
def xS_s (h : xm_H) (a N : Nat) (f : Nat → Int32) : Prop := ∃ (w w2 : Bool) (b : Nat) (hs hz : Int32), h a = some (w, .inr (15, [.ref b, .int 0, .int hs, .int hz])) ∧ h b = some (w2, .inl (.byte, N, .inl f)) ∧ N < 2 ^ 31
/-- a byte as a sign -/
def ja_u8 (v : Int32) : Int32 := ((v &&& 255).toUInt32 % 65536).toInt32
theorem ja_u8_lo0 : ∀ c : Fin 256, decide (((nI c.val).toUInt32 % 65536).toInt32 = nI c.val) = true := by decide +kernel
theorem ja_and255 (v : Int32) : ∃ c : Nat, c < 256 ∧ v &&& 255 = nI c := by
  refine ⟨(v &&& 255).toNatClampNeg, ?_, ?_⟩
  · have h : (v &&& 255).toBitVec = v.toBitVec &&& 255#32 := rfl
    have h2 : (v.toBitVec &&& 255#32).toNat ≤ 255 := by
      rw [BitVec.toNat_and]
      exact Nat.and_le_right
    have h3 : (v &&& 255).toInt = ((v.toBitVec &&& 255#32).toNat : Int) := by
      rw [← Int32.toInt_toBitVec, h, BitVec.toInt_eq_toNat_of_lt (by omega)]
    show (v &&& 255).toInt.toNat < 256
    omega
  · have h : (v &&& 255).toBitVec = v.toBitVec &&& 255#32 := rfl
    have h2 : (v.toBitVec &&& 255#32).toNat ≤ 255 := by
      rw [BitVec.toNat_and]
      exact Nat.and_le_right
    have h3 : (v &&& 255).toInt = ((v.toBitVec &&& 255#32).toNat : Int) := by
      rw [← Int32.toInt_toBitVec, h, BitVec.toInt_eq_toNat_of_lt (by omega)]
    refine (xa_ix_s (N := 256) ?_).1
    unfold xa_ix
    have h4 : (v &&& 255).toNatClampNeg = (v &&& 255).toInt.toNat := rfl
    rw [if_pos ⟨by omega, by omega⟩, h4]
theorem ja_u8_lo {c : Nat} (hc : c < 256) : ja_u8 (nI c) = nI c := by
  unfold ja_u8
  have h := nx_and c 255
  have h2 : c &&& 255 = c := by
    have := Nat.and_two_pow_sub_one_eq_mod c 8
    rw [show (2 ^ 8 - 1 : Nat) = 255 from rfl] at this
    omega
  rw [show (255 : Int32) = nI 255 from rfl, h, h2]
  exact of_decide_eq_true (ja_u8_lo0 ⟨c, hc⟩)
theorem ja_u8_of (v : Int32) : ∃ c : Nat, c < 256 ∧ ja_u8 v = nI c := by
  obtain ⟨c, hc, e⟩ := ja_and255 v
  refine ⟨c, hc, ?_⟩
  unfold ja_u8
  rw [e]
  exact of_decide_eq_true (ja_u8_lo0 ⟨c, hc⟩)
theorem ja_nar0 : ∀ c : Fin 256, decide (narrow .char (.int (nI c.val)) = .int (nI c.val)) = true := by decide +kernel
theorem ja_chk (v : Int32) : xb_chk .char (ja_u8 v) = some () := by
  obtain ⟨c, hc, e⟩ := ja_u8_of v
  rw [e]
  exact xo_g_t (of_decide_eq_true (ja_nar0 ⟨c, hc⟩))
theorem ja_byte0 : xb_chk .byte 0 = some () := xo_g_t rfl
section JS
variable {g : xm_G} {h : xm_H} {a N : Nat} {f : Nat → Int32}
theorem J_coder (hs : xS_s h a N f) : F_J6_coder g a h = some 0 := by
  obtain ⟨w, w2, b, s1, s2, h1, h2, h3⟩ := hs
  unfold F_J6_coder
  rw [if_neg (by decide)]
  simp [xh_fi, xh_f, h1, xo_b, List.lookup, xv_i, ja_byte0]
theorem J_length (hs : xS_s h a N f) : F_J6_length g a h = some (nI N) := by
  have hc := J_coder (g := g) hs
  obtain ⟨w, w2, b, s1, s2, h1, h2, h3⟩ := hs
  unfold F_J6_length
  simp [xh_fr, xh_f, h1, h2, xo_b, List.lookup, xv_r, xh_len, xh_is, hc]
theorem J_latin (hs : xS_s h a N f) : F_J6_isLatin1 g a h = some 1 := by
  obtain ⟨w, w2, b, s1, s2, h1, h2, h3⟩ := hs
  unfold F_J6_isLatin1
  rw [if_neg (by decide)]
  simp [xh_fi, xh_f, h1, xo_b, List.lookup, xv_i]
theorem J_charAt (hs : xS_s h a N f) {j : Nat} (hj : j < N) : F_J6_charAt g a (nI j) h = some (ja_u8 (f j)) := by
  have hc := J_latin (g := g) hs
  obtain ⟨w, w2, b, s1, s2, h1, h2, h3⟩ := hs
  have e1 : ¬ nI j < 0 := nI_pos (by omega)
  have e2 : nI j < nI N := Int32.lt_iff_toInt_lt.mpr (by
    have : ∀ k : Nat, k < 2 ^ 31 → (nI k).toInt = (k : Int) := fun k hk => by
      have h4 := xa_ix_n (N := 2 ^ 31) hk hk
      unfold xa_ix at h4
      split at h4
      · next c => have := Option.some.inj h4; omega
      · cases h4
    rw [this j (by omega), this N h3]
    omega)
  have e3 : F_J12_checkIndex g (nI j) (nI N) (xm_sto g "jdk/internal/util/Preconditions" "SIOOBE_FORMATTER" "Ljava/util/function/BiFunction;") h = some (nI j) := by
    unfold F_J12_checkIndex
    rw [if_neg e1, if_pos e2]
  have e4 : F_J11_charAt g (some b) (nI j) h = some (ja_u8 (f j)) := by
    unfold F_J11_charAt F_J6_checkIndex
    have e5 := ja_chk (f j)
    unfold ja_u8 at e5 ⊢
    simp only [xo_b, xh_len, h2, e3, xh_ai, h3, and_self, if_true, xa_ix_n hj (Nat.lt_trans hj h3), e5]
  unfold F_J6_charAt
  simp [xh_is, h1, xo_b, hc, xh_fr, xh_f, List.lookup, xv_r, e4, ja_chk]
end JS
