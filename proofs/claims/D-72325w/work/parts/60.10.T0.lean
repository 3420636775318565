/-! simp rows for the ints by their number -/
def nM (a : Nat) : Int32 := -(nI a)
theorem neg_nI (a : Nat) : -(nI a) = nM a := by
  unfold nM
  exact (Eq.refl _).trans (Eq.refl _)
theorem nM_toInt {a : Nat} (h : a < 2 ^ 31) : (nM a).toInt = -(a : Int) := by
  unfold nM nI
  rw [Int32.toInt_neg]
  have : (Int32.ofNat a).toInt = a := nI_toInt h
  rw [this]
  simp only [Int.bmod]
  split <;> omega
theorem nI_ltJ {a b : Nat} (ha : a < 2 ^ 31) (hb : b < 2 ^ 31) : nI a < nI b ↔ a < b := by
  rw [Int32.lt_iff_toInt_lt, nI_toInt ha, nI_toInt hb]; omega
theorem nI_nM_eq {a b : Nat} (ha : a < 2 ^ 31) (h0 : 0 < b) (hb : b < 2 ^ 31) : nI a = nM b ↔ False := by
  rw [← Int32.toInt_inj, nI_toInt ha, nM_toInt hb, iff_false]; omega
theorem nM_nI_eq {a b : Nat} (ha : a < 2 ^ 31) (h0 : 0 < b) (hb : b < 2 ^ 31) : nM b = nI a ↔ False := by
  rw [← Int32.toInt_inj, nI_toInt ha, nM_toInt hb, iff_false]; omega
theorem nM_eq {a b : Nat} (ha : a < 2 ^ 31) (hb : b < 2 ^ 31) : nM a = nM b ↔ a = b := by
  rw [← Int32.toInt_inj, nM_toInt ha, nM_toInt hb]; omega
theorem nM_nI_le {a b : Nat} (ha : a < 2 ^ 31) (hb : b < 2 ^ 31) : nM b ≤ nI a ↔ True := by
  rw [Int32.le_iff_toInt_le, nI_toInt ha, nM_toInt hb, iff_true]; omega
theorem nI_nM_le {a b : Nat} (ha : a < 2 ^ 31) (h0 : 0 < b) (hb : b < 2 ^ 31) : nI a ≤ nM b ↔ False := by
  rw [Int32.le_iff_toInt_le, nI_toInt ha, nM_toInt hb, iff_false]; omega
theorem nM_nI_lt {a b : Nat} (ha : a < 2 ^ 31) (h0 : 0 < b) (hb : b < 2 ^ 31) : nM b < nI a ↔ True := by
  rw [Int32.lt_iff_toInt_lt, nI_toInt ha, nM_toInt hb, iff_true]; omega
theorem nI_nM_lt {a b : Nat} (ha : a < 2 ^ 31) (hb : b < 2 ^ 31) : nI a < nM b ↔ False := by
  rw [Int32.lt_iff_toInt_lt, nI_toInt ha, nM_toInt hb, iff_false]; omega
theorem gck_t {α : Type} (x : Option α) : gck true x = x := by unfold gck; exact if_pos rfl
theorem gLet_e {α β : Type} (a : α) (f : α → β) : gLet a f = f a := by
  have h : gLet a f = gLet a f := Eq.refl _
  exact h.trans (Eq.refl _)
theorem gIn_t {k n : Nat} (h : k < 2 ^ 31) (h2 : k < n) : gIn (nI k) n = true := by rw [gIn_nI h, decide_eq_true h2]
theorem nI_sub1 {n : Nat} (h : 1 ≤ n) : nI n - nI 1 = nI (n - 1) := pk_sub h
theorem ite_p {α : Type} {c : Prop} [Decidable c] {a b : α} (h : c) : (if c then a else b) = a := if_pos h
theorem ite_n {α : Type} {c : Prop} [Decidable c] {a b : α} (h : ¬ c) : (if c then a else b) = b := if_neg h
theorem iteT {α : Type} {a b : α} : (if True then a else b) = a := if_pos trivial
theorem iteF {α : Type} {a b : α} : (if False then a else b) = b := if_neg id
theorem obind_some {α β : Type} (a : α) (f : α → Option β) : (Option.some a).bind f = f a := by
  have h : (Option.some a).bind f = (Option.some a).bind f := Eq.refl _
  exact h.trans (Eq.refl _)
theorem bind_some' {α β : Type} (a : α) (f : α → Option β) : Option.bind (Option.some a) f = f a := rfl
theorem gS_ne' {G : gP} {k j a i : Nat} {v : Int32} (h : ¬ (a = k ∧ i = j)) : gS (gS1 G k j v) a i = gS G a i := gS_ne h
theorem nLit (n : Nat) : (OfNat.ofNat n : Int32) = nI n := by
  have h : nI n = nI n := Eq.refl _
  exact (nI_lit n).trans h
