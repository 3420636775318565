/-! the first bit -/
def nt1 (x1 : Int32) : Int32 := if 0 < x1 then gLet (if x1 ≤ (65536 : Int32) then (x1, (1 : Int32)) else gLet (gUshr x1 (16 : Int32)) fun x26 => (x26, (1 : Int32) + 16)) fun q4 => gLet (if q4.1 ≤ (256 : Int32) then (q4.1, q4.2) else gLet (gUshr q4.1 (8 : Int32)) fun x23 => (x23, q4.2 + 8)) fun q7 => gLet (if q7.1 ≤ (16 : Int32) then (q7.1, q7.2) else gLet (gUshr q7.1 (4 : Int32)) fun x20 => (x20, q7.2 + 4)) fun q10 => gLet (if q10.1 ≤ (4 : Int32) then (q10.1, q10.2) else gLet (gUshr q10.1 (2 : Int32)) fun x17 => (x17, q10.2 + 2)) fun q13 => q13.2 + (gUshr q13.1 (1 : Int32)) else x1 &&& (32 : Int32)
theorem nt_eq (a : Int32) : f_J4_numberOfTrailingZeros a = nt1 ((a ^^^ (-1 : Int32)) &&& (a - (1 : Int32))) := rfl
theorem nt1_t : ∀ t : Fin 32, nt1 (nI (2 ^ t.val - 1)) = nI t.val := by decide +kernel
theorem m1_bits : ∀ i : Fin 32, ((-1 : Int32).toBitVec).getLsbD i.val = true := by decide
theorem ntz32 {x : Int32} {t : Nat} (ht : t < 32) (h : x.toBitVec.toNat % 2 ^ (t + 1) = 2 ^ t) : f_J4_numberOfTrailingZeros x = nI t := by
  rw [nt_eq]
  have hp : 2 ^ t < 2 ^ (t + 1) := Nat.pow_lt_pow_right (by decide) (by omega)
  have hp0 : 0 < 2 ^ t := Nat.two_pow_pos t
  have hp32 : 2 ^ t ≤ 2 ^ 31 := Nat.pow_le_pow_right (by decide) (by omega)
  have hX : x.toBitVec.toNat = 2 ^ (t + 1) * (x.toBitVec.toNat / 2 ^ (t + 1)) + 2 ^ t := by
    have := Nat.div_add_mod x.toBitVec.toNat (2 ^ (t + 1))
    rw [h] at this
    exact this.symm
  have hlt := x.toBitVec.isLt
  generalize hy : x.toBitVec.toNat / 2 ^ (t + 1) = y at hX
  have e : (x ^^^ (-1 : Int32)) &&& (x - (1 : Int32)) = nI (2 ^ t - 1) := by
    apply Int32.toBitVec_inj.mp
    apply BitVec.eq_of_getLsbD_eq
    intro i hi
    show ((x.toBitVec ^^^ (-1 : Int32).toBitVec) &&& (x.toBitVec - 1#32)).getLsbD i = (nI (2 ^ t - 1)).toBitVec.toNat.testBit i
    rw [BitVec.getLsbD_and, BitVec.getLsbD_xor, m1_bits ⟨i, hi⟩, pk_tn (by omega)]
    have e1 : (x.toBitVec - 1#32).toNat = 2 ^ (t + 1) * y + (2 ^ t - 1) := by
      rw [BitVec.toNat_sub, BitVec.toNat_ofNat, hX]
      rw [hX] at hlt
      omega
    show ((x.toBitVec.toNat.testBit i ^^ true) && (x.toBitVec - 1#32).toNat.testBit i) = _
    rw [e1, hX, Nat.testBit_two_pow_mul_add y hp, Nat.testBit_two_pow_mul_add y (show 2 ^ t - 1 < 2 ^ (t + 1) by omega), Nat.testBit_two_pow_sub_one]
    by_cases h1 : i < t + 1
    · rw [if_pos h1, if_pos h1, Nat.testBit_two_pow]
      by_cases h2 : i < t
      · rw [decide_eq_true h2, decide_eq_false (show ¬ t = i by omega)]; rfl
      · rw [decide_eq_false h2, Bool.and_false]
    · rw [if_neg h1, if_neg h1, decide_eq_false (show ¬ i < t by omega)]
      cases y.testBit (i - (t + 1)) <;> rfl
  rw [e]
  exact nt1_t ⟨t, ht⟩
theorem low_mod {N t : Nat} (h1 : N.testBit t = true) (h2 : ∀ j, j < t → N.testBit j = false) : N % 2 ^ (t + 1) = 2 ^ t := by
  apply Nat.eq_of_testBit_eq
  intro i
  rw [Nat.testBit_mod_two_pow, Nat.testBit_two_pow]
  by_cases e : i = t
  · subst e; rw [h1, decide_eq_true (by omega), decide_eq_true rfl]; rfl
  · rw [decide_eq_false (show ¬ t = i from fun z => e z.symm)]
    by_cases h : i < t
    · rw [h2 i h, Bool.and_false]
    · rw [decide_eq_false (by omega), Bool.false_and]
theorem toI_V (x : Int64) : x.toInt32.toBitVec.toNat = lV x % 2 ^ 32 := by
  show (x.toBitVec.signExtend 32).toNat = _
  rw [BitVec.signExtend_eq_setWidth_of_le _ (by decide), BitVec.toNat_setWidth]; rfl
theorem ntz64 {x : Int64} {t : Nat} (ht : t < 64) (h1 : bt x t = true) (h2 : ∀ j, j < t → bt x j = false) : f_J2_numberOfTrailingZeros x = nI t := by
  unfold f_J2_numberOfTrailingZeros
  have hlt := lV_lt x
  rw [bt_lV] at h1
  have h2' : ∀ j, j < t → (lV x).testBit j = false := h2
  by_cases h32 : t < 32
  · have hm : x.toInt32.toBitVec.toNat % 2 ^ (t + 1) = 2 ^ t := by
      rw [toI_V, Nat.mod_mod_of_dvd _ (Nat.pow_dvd_pow 2 (by omega))]
      exact low_mod h1 h2'
    have hne : ¬ x.toInt32 = 0 := by
      intro z
      rw [z] at hm
      have : (0 : Int32).toBitVec.toNat = 0 := by decide
      rw [this, Nat.zero_mod] at hm
      have := Nat.two_pow_pos t
      omega
    rw [if_neg hne]
    exact ntz32 h32 hm
  · have hz : x.toInt32 = 0 := by
      apply Int32.toBitVec_inj.mp
      apply BitVec.eq_of_toNat_eq
      rw [toI_V]
      show lV x % 2 ^ 32 = 0
      apply Nat.eq_of_testBit_eq
      intro i
      rw [Nat.testBit_mod_two_pow, Nat.zero_testBit]
      by_cases h : i < 32
      · rw [h2' i (by omega), Bool.and_false]
      · rw [decide_eq_false h, Bool.false_and]
    rw [if_pos hz]
    have e : (gUshrL x 32).toInt32.toBitVec.toNat = lV x / 2 ^ 32 := by
      rw [toI_V, show (32 : Int32) = nI 32 from rfl, lV_ush x (by decide), Nat.mod_eq_of_lt (by omega)]
    rw [ntz32 (x := (gUshrL x 32).toInt32) (t := t - 32) (by omega) ?_, show (32 : Int32) = nI 32 from rfl, nI_add]
    · apply nI_inj; omega
    · rw [e]
      refine low_mod ?_ (fun j hj => ?_)
      · rw [Nat.testBit_div_two_pow, show t - 32 + 32 = t by omega]; exact h1
      · rw [Nat.testBit_div_two_pow]; exact h2' _ (by omega)
