/-! sets by bits -/
def bt (x : Int64) (t : Nat) : Bool := x.toBitVec.getLsbD t
theorem bt_ext {x y : Int64} (h : ∀ t, t < 64 → bt x t = bt y t) : x = y := by
  apply Int64.toBitVec_inj.mp
  apply BitVec.eq_of_getLsbD_eq
  intro i hi
  exact h i hi
theorem bt_or (x y : Int64) (t : Nat) : bt (x ||| y) t = (bt x t || bt y t) := by unfold bt; simp
theorem bt_0 (t : Nat) : bt 0 t = false := by unfold bt; simp
theorem sh_b {t : Nat} (h : t < 64) : ((nI t).toInt64 &&& 63).toBitVec.smod 64#64 = BitVec.ofNat 64 t := by
  have key : ∀ t : Fin 64, ((nI t.val).toInt64 &&& 63).toBitVec.smod 64#64 = BitVec.ofNat 64 t.val := by decide
  exact key ⟨t, h⟩
theorem shl_b (x : Int64) {t : Nat} (h : t < 64) : (gShlL x (nI t)).toBitVec = x.toBitVec <<< t := by
  unfold gShlL
  show x.toBitVec <<< (((nI t).toInt64 &&& 63).toBitVec.smod 64#64) = _
  rw [sh_b h, BitVec.shiftLeft_eq', BitVec.toNat_ofNat]
  rw [Nat.mod_eq_of_lt (by omega)]
theorem shr_b (x : Int64) {t : Nat} (h : t < 64) : (gShrL x (nI t)).toBitVec = x.toBitVec.sshiftRight t := by
  unfold gShrL
  show x.toBitVec.sshiftRight' (((nI t).toInt64 &&& 63).toBitVec.smod 64#64) = _
  rw [sh_b h]
  show x.toBitVec.sshiftRight (BitVec.ofNat 64 t).toNat = _
  rw [BitVec.toNat_ofNat, Nat.mod_eq_of_lt (by omega)]
theorem bt_1 {t : Nat} (h : t < 64) (i : Nat) : bt (gShlL 1 (nI t)) i = decide (i = t) := by
  unfold bt
  rw [shl_b 1 h]
  show (1#64 <<< t).getLsbD i = _
  rw [← BitVec.twoPow_eq, BitVec.getLsbD_twoPow]
  by_cases e : i = t
  · subst e; simp [h]
  · rw [decide_eq_false e]; simp; intro _; omega
theorem tst_b (x : Int64) {t : Nat} (h : t < 64) : (gShrL x (nI t) &&& 1) = if bt x t = true then 1 else 0 := by
  have e : ∀ i, i < 64 → bt (gShrL x (nI t) &&& 1) i = (bt x t && decide (i = 0)) := by
    intro i hi
    unfold bt
    show ((gShrL x (nI t)).toBitVec &&& 1#64).getLsbD i = _
    rw [shr_b x h, BitVec.getLsbD_and, BitVec.getLsbD_sshiftRight]
    by_cases e0 : i = 0
    · subst e0; simp [h]
    · simp [e0]
  apply bt_ext
  intro i hi
  rw [e i hi]
  cases hb : bt x t
  · rw [if_neg (by decide), bt_0]; rfl
  · rw [if_pos rfl]
    show _ = (1#64).getLsbD i
    simp
theorem tst_1 (x : Int64) {t : Nat} (h : t < 64) : (gShrL x (nI t) &&& 1) = 1 ↔ bt x t = true := by
  rw [tst_b x h]
  cases bt x t
  · simp
  · simp
theorem tst_0 (x : Int64) {t : Nat} (h : t < 64) : (gShrL x (nI t) &&& 1) = 0 ↔ bt x t = false := by
  rw [tst_b x h]
  cases bt x t
  · simp
  · simp
theorem msk_b {n : Nat} (h : n < 64) {i : Nat} (hi : i < 64) : bt (gShlL 1 (nI n) - 1) i = decide (i < n) := by
  unfold bt
  show ((gShlL 1 (nI n)).toBitVec - 1#64).getLsbD i = _
  rw [shl_b 1 h]
  have e : ((1 : Int64).toBitVec <<< n - 1#64) = BitVec.ofNat 64 (2 ^ n - 1) := by
    apply BitVec.eq_of_toNat_eq
    have h1 : 2 ^ n < 2 ^ 64 := Nat.pow_lt_pow_right (by decide) h
    have h2 : 0 < 2 ^ n := Nat.two_pow_pos n
    show ((1#64 <<< n) - 1#64).toNat = _
    rw [BitVec.toNat_sub, BitVec.toNat_shiftLeft, BitVec.toNat_ofNat, BitVec.toNat_ofNat, Nat.shiftLeft_eq, Nat.mod_eq_of_lt (by decide : 1 < 2 ^ 64), Nat.one_mul, Nat.mod_eq_of_lt h1, Nat.mod_eq_of_lt (by omega : 2 ^ n - 1 < 2 ^ 64)]
    omega
  rw [e, BitVec.getLsbD_ofNat, Nat.testBit_two_pow_sub_one]
  simp [hi]
theorem bt_ne0 (x : Int64) : x ≠ 0 ↔ ∃ t, t < 64 ∧ bt x t = true := by
  constructor
  · intro h
    apply Classical.byContradiction
    intro hn
    apply h
    apply bt_ext
    intro t ht
    rw [bt_0]
    cases hb : bt x t
    · rfl
    · exact (hn ⟨t, ht, hb⟩).elim
  · rintro ⟨t, _, hb⟩ rfl
    rw [bt_0] at hb; cases hb
/-- the set of those that f tells, below n -/
def bS (f : Nat → Bool) : Nat → Int64
  | 0 => 0
  | t + 1 => bS f t ||| (if f t = true then gShlL 1 (nI t) else 0)
theorem bS_b (f : Nat → Bool) : ∀ n, n ≤ 64 → ∀ i, bt (bS f n) i = (decide (i < n) && f i) := by
  intro n
  induction n with
  | zero => intro _ i; unfold bS; rw [bt_0]; simp
  | succ n ih =>
    intro hn i
    unfold bS
    rw [bt_or, ih (by omega)]
    by_cases e : i = n
    · subst e
      cases hf : f i
      · simp [bt_0]
      · simp [bt_1 (show i < 64 by omega)]
    · have : bt (if f n = true then gShlL 1 (nI n) else 0) i = false := by
        split
        · rw [bt_1 (by omega), decide_eq_false e]
        · rw [bt_0]
      rw [this]
      by_cases h2 : i < n
      · simp [h2, show i < n + 1 by omega]
      · simp [h2, show ¬ i < n + 1 by omega]
