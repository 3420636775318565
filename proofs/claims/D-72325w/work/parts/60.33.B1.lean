/-! bits counted; the first bit -/
theorem land_256 {x y u v : Nat} (hx : x < 256) (hu : u < 256) : (x + 256 * y) &&& (u + 256 * v) = (x &&& u) + 256 * (y &&& v) := by
  have h1 : ((x + 256 * y) &&& (u + 256 * v)) % 2 ^ 8 = x &&& u := by
    rw [Nat.and_mod_two_pow]
    rw [show (x + 256 * y) % 2 ^ 8 = x by omega, show (u + 256 * v) % 2 ^ 8 = u by omega]
  have h2 : ((x + 256 * y) &&& (u + 256 * v)) / 2 ^ 8 = y &&& v := by
    rw [Nat.and_div_two_pow]
    rw [show (x + 256 * y) / 2 ^ 8 = y by omega, show (u + 256 * v) / 2 ^ 8 = v by omega]
  omega
def rep (c : Nat) : Nat → Nat
  | 0 => 0
  | k + 1 => c + 256 * rep c k
/-- the three steps on so many bytes -/
def bc1 (k n : Nat) : Nat := n - ((n / 2) &&& rep 85 k)
def bc2 (k n : Nat) : Nat := (n &&& rep 51 k) + ((n / 4) &&& rep 51 k)
def bc3 (k n : Nat) : Nat := (n + n / 16) &&& rep 15 k
theorem and_le_l (a b : Nat) : a &&& b ≤ a := Nat.and_le_left
theorem dec1 : ∀ a : Fin 256, ∀ c : Fin 2, ((a.val / 2 + 128 * c.val) &&& 85) = ((a.val / 2) &&& 85) := by decide +kernel
theorem dec2 : ∀ a : Fin 256, ∀ c : Fin 4, ((a.val / 4 + 64 * c.val) &&& 51) = ((a.val / 4) &&& 51) := by decide +kernel
theorem bc1_s {k a b : Nat} (ha : a < 256) : bc1 (k + 1) (a + 256 * b) = (a - ((a / 2) &&& 85)) + 256 * bc1 k b := by
  unfold bc1
  show a + 256 * b - (((a + 256 * b) / 2) &&& (85 + 256 * rep 85 k)) = _
  rw [show (a + 256 * b) / 2 = (a / 2 + 128 * (b % 2)) + 256 * (b / 2) by omega, land_256 (by omega) (by decide), dec1 ⟨a, ha⟩ ⟨b % 2, by omega⟩]
  have h1 := and_le_l (a / 2) 85
  have h2 := and_le_l (b / 2) (rep 85 k)
  simp only at h1 h2 ⊢
  omega
theorem bc2_s {k a b : Nat} (ha : a < 256) : bc2 (k + 1) (a + 256 * b) = ((a &&& 51) + ((a / 4) &&& 51)) + 256 * bc2 k b := by
  unfold bc2
  show ((a + 256 * b) &&& (51 + 256 * rep 51 k)) + (((a + 256 * b) / 4) &&& (51 + 256 * rep 51 k)) = _
  rw [show (a + 256 * b) / 4 = (a / 4 + 64 * (b % 4)) + 256 * (b / 4) by omega, land_256 ha (by decide), land_256 (x := a / 4 + 64 * (b % 4)) (by omega) (by decide), dec2 ⟨a, ha⟩ ⟨b % 4, by omega⟩]
  simp only
  omega
/-- a byte, two steps on -/
def by2 (a : Nat) : Nat := ((a - ((a / 2) &&& 85)) &&& 51) + (((a - ((a / 2) &&& 85)) / 4) &&& 51)
def bits8 (a : Nat) : Nat := su (fun j => if a.testBit j = true then 1 else 0) 8
theorem dec3 : ∀ a : Fin 256, by2 a.val ≤ 68 ∧ by2 a.val % 16 ≤ 4 ∧ ∀ c : Fin 5, ((by2 a.val + by2 a.val / 16 + 16 * c.val) &&& 15) = bits8 a.val := by decide +kernel
def bc12 (k n : Nat) : Nat := bc2 k (bc1 k n)
theorem bc12_s {k a b : Nat} (ha : a < 256) : bc12 (k + 1) (a + 256 * b) = by2 a + 256 * bc12 k b := by
  unfold bc12
  rw [bc1_s ha, bc2_s (by omega)]
  rfl
theorem bc12_m {k b : Nat} : b < 256 ^ k → bc12 k b % 16 ≤ 4 := by
  cases k with
  | zero => intro h; have : b = 0 := by omega
            subst this; decide
  | succ k =>
    intro h
    have e : b = b % 256 + 256 * (b / 256) := by omega
    rw [e, bc12_s (by omega)]
    have := (dec3 ⟨b % 256, by omega⟩).2.1
    simp only at this
    omega
def bc (k n : Nat) : Nat := bc3 k (bc12 k n)
theorem bc_s {k a b : Nat} (ha : a < 256) (hb : b < 256 ^ k) : bc (k + 1) (a + 256 * b) = bits8 a + 256 * bc k b := by
  unfold bc
  rw [bc12_s ha]
  have h1 := dec3 ⟨a, ha⟩
  have h2 := bc12_m hb
  simp only at h1
  generalize bc12 k b = y at *
  unfold bc3
  show ((by2 a + 256 * y) + (by2 a + 256 * y) / 16) &&& (15 + 256 * rep 15 k) = _
  rw [show (by2 a + 256 * y) + (by2 a + 256 * y) / 16 = (by2 a + by2 a / 16 + 16 * (y % 16)) + 256 * (y + y / 16) by omega, land_256 (by omega) (by decide)]
  have := h1.2.2 ⟨y % 16, by omega⟩
  simp only at this
  rw [this]
/-- so many bits are set -/
def nB (n : Nat) : Nat → Nat := su (fun j => if n.testBit j = true then 1 else 0)
theorem su_add (f : Nat → Nat) (m : Nat) : ∀ n, su f (m + n) = su f m + su (fun k => f (m + k)) n := by
  intro n
  induction n with
  | zero => rfl
  | succ n ih => show su f (m + n) + f (m + n) = su f m + (su _ n + f (m + n)); rw [ih, Nat.add_assoc]
theorem su_ext {f g : Nat → Nat} : ∀ n, (∀ k, k < n → f k = g k) → su f n = su g n := by
  intro n
  induction n with
  | zero => intro _; rfl
  | succ n ih => intro h; show su f n + f n = su g n + g n; rw [ih (fun k hk => h k (by omega)), h n (by omega)]
theorem nB_s {a b : Nat} (ha : a < 256) (n : Nat) : nB (a + 256 * b) (8 + n) = bits8 a + nB b n := by
  unfold nB bits8
  rw [su_add]
  congr 1
  · refine su_ext 8 (fun k hk => ?_)
    rw [show a + 256 * b = 2 ^ 8 * b + a by omega, Nat.testBit_two_pow_mul_add b (show a < 2 ^ 8 by omega), if_pos hk]
  · refine su_ext n (fun k hk => ?_)
    rw [show a + 256 * b = 2 ^ 8 * b + a by omega, Nat.testBit_two_pow_mul_add b (show a < 2 ^ 8 by omega), if_neg (show ¬ 8 + k < 8 by omega), show 8 + k - 8 = k by omega]
theorem bits8_le (a : Nat) : bits8 a ≤ 8 := by
  unfold bits8
  have : ∀ n, su (fun j => if a.testBit j = true then 1 else 0) n ≤ n := by
    intro n
    induction n with
    | zero => exact Nat.le_refl _
    | succ n ih => show su _ n + (if a.testBit n = true then 1 else 0) ≤ _; split <;> omega
  exact this 8
theorem bc_bits {n : Nat} (hn : n < 2 ^ 64) : ∃ t0 t1 t2 t3 t4 t5 t6 t7, (t0 ≤ 8 ∧ t1 ≤ 8 ∧ t2 ≤ 8 ∧ t3 ≤ 8 ∧ t4 ≤ 8 ∧ t5 ≤ 8 ∧ t6 ≤ 8 ∧ t7 ≤ 8) ∧ bc 8 n = t0 + 256 * (t1 + 256 * (t2 + 256 * (t3 + 256 * (t4 + 256 * (t5 + 256 * (t6 + 256 * t7)))))) ∧ nB n 64 = t0 + t1 + t2 + t3 + t4 + t5 + t6 + t7 := by
  have st : ∀ k n, n < 256 ^ (k + 1) → ∃ a b, a < 256 ∧ b < 256 ^ k ∧ n = a + 256 * b := fun k n h => ⟨n % 256, n / 256, by omega, by rw [Nat.pow_succ] at h; omega, by omega⟩
  have h0 : n < 256 ^ (7 + 1) := hn
  obtain ⟨a0, b0, ha0, hb0, rfl⟩ := st 7 n h0
  obtain ⟨a1, b1, ha1, hb1, rfl⟩ := st 6 b0 hb0
  obtain ⟨a2, b2, ha2, hb2, rfl⟩ := st 5 b1 hb1
  obtain ⟨a3, b3, ha3, hb3, rfl⟩ := st 4 b2 hb2
  obtain ⟨a4, b4, ha4, hb4, rfl⟩ := st 3 b3 hb3
  obtain ⟨a5, b5, ha5, hb5, rfl⟩ := st 2 b4 hb4
  obtain ⟨a6, b6, ha6, hb6, rfl⟩ := st 1 b5 hb5
  obtain ⟨a7, b7, ha7, hb7, rfl⟩ := st 0 b6 hb6
  have hz : b7 = 0 := by have : (256 : Nat) ^ 0 = 1 := rfl; omega
  subst hz
  refine ⟨bits8 a0, bits8 a1, bits8 a2, bits8 a3, bits8 a4, bits8 a5, bits8 a6, bits8 a7, ⟨bits8_le _, bits8_le _, bits8_le _, bits8_le _, bits8_le _, bits8_le _, bits8_le _, bits8_le _⟩, ?_, ?_⟩
  · rw [bc_s ha0 hb0, bc_s ha1 hb1, bc_s ha2 hb2, bc_s ha3 hb3, bc_s ha4 hb4, bc_s ha5 hb5, bc_s ha6 hb6, bc_s ha7 hb7]
    rfl
  · rw [show (64 : Nat) = 8 + 56 from rfl, nB_s ha0, show (56 : Nat) = 8 + 48 from rfl, nB_s ha1, show (48 : Nat) = 8 + 40 from rfl, nB_s ha2, show (40 : Nat) = 8 + 32 from rfl, nB_s ha3, show (32 : Nat) = 8 + 24 from rfl, nB_s ha4, show (24 : Nat) = 8 + 16 from rfl, nB_s ha5, show (16 : Nat) = 8 + 8 from rfl, nB_s ha6, show nB (a7 + 256 * 0) 8 = nB (a7 + 256 * 0) (8 + 0) from rfl, nB_s ha7]
    show _ + (_ + (_ + (_ + (_ + (_ + (_ + (_ + 0))))))) = _
    omega
/-- a long by its number -/
def lV (x : Int64) : Nat := x.toBitVec.toNat
theorem lV_lt (x : Int64) : lV x < 2 ^ 64 := x.toBitVec.isLt
theorem lV_inj {x y : Int64} (h : lV x = lV y) : x = y := Int64.toBitVec_inj.mp (BitVec.eq_of_toNat_eq h)
theorem lV_add (x y : Int64) : lV (x + y) = (lV x + lV y) % 2 ^ 64 := by
  show (x.toBitVec + y.toBitVec).toNat = _
  rw [BitVec.toNat_add]; rfl
theorem lV_sub {x y : Int64} (h : lV y ≤ lV x) : lV (x - y) = lV x - lV y := by
  show (x.toBitVec - y.toBitVec).toNat = _
  rw [BitVec.toNat_sub]
  have h1 := lV_lt x
  have h2 := lV_lt y
  unfold lV at *
  omega
theorem lV_and (x y : Int64) : lV (x &&& y) = lV x &&& lV y := by
  show (x.toBitVec &&& y.toBitVec).toNat = _
  rw [BitVec.toNat_and]; rfl
theorem ush_b {t : Nat} (h : t < 64) : (((nI t).toInt64.toUInt64 &&& Int64.toUInt64 63).toBitVec % 64#64).toNat = t := by
  have key : ∀ t : Fin 64, (((nI t.val).toInt64.toUInt64 &&& Int64.toUInt64 63).toBitVec % 64#64).toNat = t.val := by decide +kernel
  exact key ⟨t, h⟩
theorem lV_ush (x : Int64) {t : Nat} (h : t < 64) : lV (gUshrL x (nI t)) = lV x / 2 ^ t := by
  unfold gUshrL lV
  show (x.toBitVec >>> (((nI t).toInt64.toUInt64 &&& Int64.toUInt64 63).toBitVec % 64#64)).toNat = _
  rw [BitVec.ushiftRight_eq', BitVec.toNat_ushiftRight, ush_b h, Nat.shiftRight_eq_div_pow]
theorem dv256 {x t u : Nat} (h : x = t + 256 * u) (ht : t < 256) : x / 256 = u := by omega
theorem ad256 {a b s t c d : Nat} (h1 : a = s + 256 * c) (h2 : b = t + 256 * d) : a + b = (s + t) + 256 * (c + d) := by omega
theorem md128 {x t u : Nat} (h : x = t + 256 * u) (ht : t < 128) : x % 128 = t := by omega
theorem sum8 {x5 x7 x9 x11 t0 t1 t2 t3 t4 t5 t6 t7 : Nat} (ht : t0 ≤ 8 ∧ t1 ≤ 8 ∧ t2 ≤ 8 ∧ t3 ≤ 8 ∧ t4 ≤ 8 ∧ t5 ≤ 8 ∧ t6 ≤ 8 ∧ t7 ≤ 8) (h5 : x5 = t0 + 256 * (t1 + 256 * (t2 + 256 * (t3 + 256 * (t4 + 256 * (t5 + 256 * (t6 + 256 * t7))))))) (h7 : x7 = x5 + x5 / 256) (h9 : x9 = x7 + x7 / 65536) (h11 : x11 = x9 + x9 / 4294967296) : x11 % 128 = t0 + t1 + t2 + t3 + t4 + t5 + t6 + t7 := by
  obtain ⟨b0, b1, b2, b3, b4, b5, b6, b7⟩ := ht
  obtain ⟨u8, hu8⟩ : ∃ u : Nat, u = 0 + 256 * 0 := ⟨_, rfl⟩
  obtain ⟨u7, hu7⟩ : ∃ u, u = t7 + 256 * u8 := ⟨_, rfl⟩
  obtain ⟨u6, hu6⟩ : ∃ u, u = t6 + 256 * u7 := ⟨_, rfl⟩
  obtain ⟨u5, hu5⟩ : ∃ u, u = t5 + 256 * u6 := ⟨_, rfl⟩
  obtain ⟨u4, hu4⟩ : ∃ u, u = t4 + 256 * u5 := ⟨_, rfl⟩
  obtain ⟨u3, hu3⟩ : ∃ u, u = t3 + 256 * u4 := ⟨_, rfl⟩
  obtain ⟨u2, hu2⟩ : ∃ u, u = t2 + 256 * u3 := ⟨_, rfl⟩
  obtain ⟨u1, hu1⟩ : ∃ u, u = t1 + 256 * u2 := ⟨_, rfl⟩
  have hu7' : u7 = t7 := by rw [hu7, hu8]; rfl
  have h5' : x5 = t0 + 256 * u1 := by rw [h5, hu1, hu2, hu3, hu4, hu5, hu6, hu7']
  clear h5
  have a1 : x5 / 256 = u1 := dv256 h5' (Nat.lt_of_le_of_lt b0 (by decide))
  rw [a1] at h7
  have v0 := ad256 h5' hu1
  rw [← h7] at v0
  have v1 := ad256 hu1 hu2
  have v2 := ad256 hu2 hu3
  have v3 := ad256 hu3 hu4
  have v4 := ad256 hu4 hu5
  have v5 := ad256 hu5 hu6
  have v6 := ad256 hu6 hu7
  have l2 : ∀ {a b : Nat}, a ≤ 8 → b ≤ 8 → a + b < 256 := fun h1 h2 => Nat.lt_of_le_of_lt (Nat.add_le_add h1 h2) (by decide)
  have l4 : ∀ {a b c d : Nat}, a ≤ 8 → b ≤ 8 → c ≤ 8 → d ≤ 8 → (a + b) + (c + d) < 256 := fun h1 h2 h3 h4 => Nat.lt_of_le_of_lt (Nat.add_le_add (Nat.add_le_add h1 h2) (Nat.add_le_add h3 h4)) (by decide)
  have a2 : x7 / 65536 = u2 + u3 := by
    rw [show (65536 : Nat) = 256 * 256 from rfl, ← Nat.div_div_eq_div_mul, dv256 v0 (l2 b0 b1), dv256 v1 (l2 b1 b2)]
  rw [a2] at h9
  have w0 := ad256 v0 v2
  rw [← h9] at w0
  have w1 := ad256 v1 v3
  have w2 := ad256 v2 v4
  have w3 := ad256 v3 v5
  have w4 := ad256 v4 v6
  have a3 : x9 / 4294967296 = (u4 + u5) + (u6 + u7) := by
    rw [show (4294967296 : Nat) = 256 * 256 * 256 * 256 from rfl, ← Nat.div_div_eq_div_mul, ← Nat.div_div_eq_div_mul, ← Nat.div_div_eq_div_mul, dv256 w0 (l4 b0 b1 b2 b3), dv256 w1 (l4 b1 b2 b3 b4), dv256 w2 (l4 b2 b3 b4 b5), dv256 w3 (l4 b3 b4 b5 b6)]
  rw [a3] at h11
  have z0 := ad256 w0 w4
  rw [← h11] at z0
  rw [md128 z0 (Nat.lt_of_le_of_lt (Nat.add_le_add (Nat.add_le_add (Nat.add_le_add b0 b1) (Nat.add_le_add b2 b3)) (Nat.add_le_add (Nat.add_le_add b4 b5) (Nat.add_le_add b6 b7))) (by decide))]
  clear z0 w0 w1 w2 w3 w4 v0 v1 v2 v3 v4 v5 v6 a1 a2 a3 h5' h7 h9 h11 hu1 hu2 hu3 hu4 hu5 hu6 hu7 hu8 hu7'
  omega
theorem bitCount_nB (x : Int64) : f_J2_bitCount x = nI (nB (lV x) 64) := by
  unfold f_J2_bitCount
  simp only [gLet_e]
  rw [show (1 : Int32) = nI 1 from rfl, show (2 : Int32) = nI 2 from rfl, show (4 : Int32) = nI 4 from rfl, show (8 : Int32) = nI 8 from rfl, show (16 : Int32) = nI 16 from rfl, show (32 : Int32) = nI 32 from rfl]
  have hx := lV_lt x
  have m1 : lV (6148914691236517205 : Int64) = rep 85 8 := by decide +kernel
  have m2 : lV (3689348814741910323 : Int64) = rep 51 8 := by decide +kernel
  have m4 : lV (1085102592571150095 : Int64) = rep 15 8 := by decide +kernel
  -- step 1
  have e1 : lV (x - (gUshrL x (nI 1) &&& 6148914691236517205)) = bc1 8 (lV x) := by
    have h : lV (gUshrL x (nI 1) &&& 6148914691236517205) = (lV x / 2) &&& rep 85 8 := by rw [lV_and, lV_ush x (by decide), m1]
    have hl := and_le_l (lV x / 2) (rep 85 8)
    rw [lV_sub (by rw [h]; omega), h]; rfl
  generalize x - (gUshrL x (nI 1) &&& 6148914691236517205) = x1 at *
  have e2 : lV ((x1 &&& 3689348814741910323) + (gUshrL x1 (nI 2) &&& 3689348814741910323)) = bc12 8 (lV x) := by
    rw [lV_add, lV_and, lV_and, lV_ush x1 (by decide), m2, e1]
    show bc2 8 (bc1 8 (lV x)) % 2 ^ 64 = _
    refine Nat.mod_eq_of_lt ?_
    have h1 := Nat.and_le_right (n := bc1 8 (lV x)) (m := rep 51 8)
    have h2 := Nat.and_le_right (n := bc1 8 (lV x) / 4) (m := rep 51 8)
    have h3 : rep 51 8 = 3689348814741910323 := by decide +kernel
    show (_ &&& rep 51 8) + (_ &&& rep 51 8) < _
    omega
  generalize (x1 &&& 3689348814741910323) + (gUshrL x1 (nI 2) &&& 3689348814741910323) = x3 at *
  obtain ⟨t0, t1, t2, t3, t4, t5, t6, t7, ht, hb, hn⟩ := bc_bits hx
  have hn0 := hn
  have hle3 : bc12 8 (lV x) ≤ 7378697629483820646 := by
    have h1 := Nat.and_le_right (n := bc1 8 (lV x)) (m := rep 51 8)
    have h2 := Nat.and_le_right (n := bc1 8 (lV x) / 4) (m := rep 51 8)
    have h3 : rep 51 8 = 3689348814741910323 := by decide +kernel
    show (_ &&& rep 51 8) + (_ &&& rep 51 8) ≤ _
    omega
  have e3 : lV ((x3 + gUshrL x3 (nI 4)) &&& 1085102592571150095) = bc 8 (lV x) := by
    rw [lV_and, lV_add, lV_ush x3 (by decide), m4, e2]
    rw [Nat.mod_eq_of_lt (by omega)]
    rfl
  generalize (x3 + gUshrL x3 (nI 4)) &&& 1085102592571150095 = x5 at *
  rw [hb] at e3
  have e4 : lV (x5 + gUshrL x5 (nI 8)) = lV x5 + lV x5 / 256 := by
    rw [lV_add, lV_ush x5 (by decide)]
    exact Nat.mod_eq_of_lt (by omega)
  generalize x5 + gUshrL x5 (nI 8) = x7 at *
  have e5 : lV (x7 + gUshrL x7 (nI 16)) = lV x7 + lV x7 / 65536 := by
    rw [lV_add, lV_ush x7 (by decide)]
    exact Nat.mod_eq_of_lt (by omega)
  generalize x7 + gUshrL x7 (nI 16) = x9 at *
  have e6 : lV (x9 + gUshrL x9 (nI 32)) = lV x9 + lV x9 / 4294967296 := by
    rw [lV_add, lV_ush x9 (by decide)]
    exact Nat.mod_eq_of_lt (by omega)
  generalize x9 + gUshrL x9 (nI 32) = x11 at *
  have e7 : lV x11 % 128 = t0 + t1 + t2 + t3 + t4 + t5 + t6 + t7 := sum8 ht e3 e4 e5 e6
  have hn' := hn0
  have e8 : x11.toInt32 &&& 127 = nI (x11.toInt32.toBitVec.toNat % 2 ^ 7) := pk_and x11.toInt32 7 (by decide)
  rw [e8, hn', ← e7]
  apply nI_inj
  have e9 : x11.toInt32.toBitVec.toNat = lV x11 % 2 ^ 32 := by
    show (x11.toBitVec.signExtend 32).toNat = _
    rw [BitVec.signExtend_eq_setWidth_of_le _ (by decide), BitVec.toNat_setWidth]; rfl
  rw [e9]
  omega
theorem bt_lV (x : Int64) (t : Nat) : bt x t = (lV x).testBit t := rfl
