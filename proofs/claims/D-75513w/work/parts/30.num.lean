/-! NUMBERS: small naturals as ints, bits of masks -/
/-- a truth value as an int -/
def sp_b (b : Bool) : Int32 := if b then 1 else 0
theorem sp_bt : sp_b true = 1 := rfl
theorem sp_bf : sp_b false = 0 := rfl
theorem sp_b0 (b : Bool) : sp_b b = 0 ↔ b = false := by cases b <;> decide
theorem sp_b1 (b : Bool) : sp_b b = 1 ↔ b = true := by cases b <;> decide
theorem sp_bx (a b : Bool) : sp_b a ^^^ sp_b b = sp_b (a ^^ b) := by cases a <;> cases b <;> decide
theorem sp_be (a b : Bool) : sp_b a = sp_b b ↔ a = b := by cases a <;> cases b <;> decide
theorem sp_bn (b : Bool) : narrow .boolean (.int (sp_b b)) = .int (sp_b b) := by cases b <;> rfl
theorem sp_bfit (b : Bool) : narrow .boolean (.int (sp_b b)) = .int (sp_b b) ∧ fits .boolean (.int (sp_b b)) = true := by cases b <;> exact ⟨rfl, rfl⟩
theorem sp_shr {x q : Nat} (hx : x < 2 ^ 31) (hq : q < 32) : nI x >>> (nI q &&& 31) = nI (x / 2 ^ q) := pk_shrN hx _ q (s_l q hq)
theorem sp_shl1 {q : Nat} (hq : q < 31) : (1 : Int32) <<< (nI q &&& 31) = nI (2 ^ q) := by
  have h := pk_shlN (n := 1) (nI q &&& 31) q (s_l q (by omega)) (by
    have : 2 ^ q ≤ 2 ^ 31 := Nat.pow_le_pow_right (by decide) (by omega)
    omega)
  rw [Nat.one_mul] at h
  exact h
theorem sp_and1 (a : Nat) : nI a &&& 1 = nI (a % 2) := by
  have h := nx_and a 1
  rw [Nat.and_one_is_mod] at h
  exact h
theorem sp_has {x q : Nat} (hx : x < 2 ^ 31) (hq : q < 32) : (nI x >>> (nI q &&& 31)) &&& 1 = 1 ↔ x.testBit q = true := by
  rw [sp_shr hx hq, sp_and1, Nat.testBit_eq_decide_div_mod_eq, decide_eq_true_eq]
  have h2 : x / 2 ^ q % 2 < 2 := Nat.mod_lt _ (by decide)
  exact nI_eq (a := x / 2 ^ q % 2) (b := 1) (by omega) (by decide)
theorem sp_or (a b : Nat) : nI a ||| nI b = nI (a ||| b) := by
  apply Int32.toBitVec_inj.mp
  simp only [nI, Int32.toBitVec_or, Int32.toBitVec_ofNat']
  apply BitVec.eq_of_getLsbD_eq
  intro i hi
  simp [BitVec.getLsbD_ofNat, hi]
theorem sp_pow_lt {q n : Nat} (h : q < n) : 2 ^ q < 2 ^ n := Nat.pow_lt_pow_right (by decide) h
theorem sp_xor_lt {a b n : Nat} (ha : a < 2 ^ n) (hb : b < 2 ^ n) : a ^^^ b < 2 ^ n := Nat.xor_lt_two_pow ha hb
theorem sp_or_lt {a b n : Nat} (ha : a < 2 ^ n) (hb : b < 2 ^ n) : a ||| b < 2 ^ n := Nat.or_lt_two_pow ha hb
/-- the letter at a qubit: 0 for I, 1 to 3 for X, Y, Z -/
def sp_let (x z q : Nat) : Nat := if x.testBit q then (if z.testBit q then 2 else 1) else (if z.testBit q then 3 else 0)
theorem sp_let_lt (x z q : Nat) : sp_let x z q < 4 := by unfold sp_let; split <;> split <;> decide
/-- what one qubit gives to the power of i of a product -/
def sp_ph1 (a b : Nat) : Nat := if a = 0 ∨ b = 0 ∨ a = b then 0 else if b = a % 3 + 1 then 1 else 3
theorem sp_ph1_le (a b : Nat) : sp_ph1 a b ≤ 3 := by
  unfold sp_ph1
  split
  · decide
  · split <;> decide
def sp_phs (x z x' z' n : Nat) : Nat := fb_sm (fun q => sp_ph1 (sp_let x z q) (sp_let x' z' q)) n
def sp_ph (x z x' z' : Nat) : Nat := sp_phs x z x' z' 8 % 4
theorem sp_phs_le (x z x' z' n : Nat) : sp_phs x z x' z' n ≤ n * 3 := fb_sm_bound (fun k _ => sp_ph1_le _ _)
/-- the number of ones among the lowest eight bits -/
def sp_bc (x : Nat) : Nat := fb_ct (fun q => x.testBit q) 8
theorem sp_ph1_ja0 : ∀ a b : Fin 4, (a.val = 0 ∨ b.val = 0 ∨ a.val = b.val) ∨ (decide ((nI b.val - nI a.val + 3) - (nI b.val - nI a.val + 3) / 3 * 3 = 1) = decide (b.val = a.val % 3 + 1)) := by decide +kernel
theorem sp_ph1_ja (a : Nat) (ha : a < 4) (b : Nat) (hb : b < 4) (h1 : ¬ a = 0) (h2 : ¬ b = 0) (h3 : ¬ a = b) : ((nI b - nI a + 3) - (nI b - nI a + 3) / 3 * 3 = 1 ↔ b = a % 3 + 1) := by
  rcases sp_ph1_ja0 ⟨a, ha⟩ ⟨b, hb⟩ with h | h
  · exact absurd h (by intro h; rcases h with h | h | h; exact h1 h; exact h2 h; exact h3 h)
  · exact decide_eq_decide.mp h
theorem sp_ph1_0 {a b : Nat} (h : a = 0 ∨ b = 0 ∨ a = b) : sp_ph1 a b = 0 := if_pos h
theorem sp_ph1_1 {a b : Nat} (h : ¬ a = 0) (h2 : ¬ b = 0) (h3 : ¬ a = b) (h4 : b = a % 3 + 1) : sp_ph1 a b = 1 := by
  unfold sp_ph1
  rw [if_neg (by omega), if_pos h4]
theorem sp_ph1_3 {a b : Nat} (h : ¬ a = 0) (h2 : ¬ b = 0) (h3 : ¬ a = b) (h4 : ¬ b = a % 3 + 1) : sp_ph1 a b = 3 := by
  unfold sp_ph1
  rw [if_neg (by omega), if_neg h4]
theorem sp_phs_s (x z u v k : Nat) : sp_phs x z u v (k + 1) = sp_phs x z u v k + sp_ph1 (sp_let x z k) (sp_let u v k) := rfl
