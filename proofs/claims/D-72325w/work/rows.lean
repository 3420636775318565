section
/-! THE MEMORY BY IDS: planes of ints, longs, references; a cell has an id, a shape (T), an address (ad) -/
abbrev gP : Type := (Nat → Nat → Int32) × (Nat → Nat → Int64) × (Nat → Nat → Option Nat)
def gS (G : gP) (k j : Nat) : Int32 := G.1 k j
def gL (G : gP) (k j : Nat) : Int64 := G.2.1 k j
def gR (G : gP) (k j : Nat) : Option Nat := G.2.2 k j
def gS1 (G : gP) (k j : Nat) (v : Int32) : gP := (va_up G.1 k (upd (G.1 k) j v), G.2.1, G.2.2)
def gL1 (G : gP) (k j : Nat) (v : Int64) : gP := (G.1, va_up G.2.1 k (vp_updL (G.2.1 k) j v), G.2.2)
def gR1 (G : gP) (k j : Nat) (v : Option Nat) : gP := (G.1, G.2.1, va_up G.2.2 k (va_up (G.2.2 k) j v))
theorem gS_S1 (G : gP) (k j a i : Nat) (v : Int32) : gS (gS1 G k j v) a i = if a = k ∧ i = j then v else gS G a i := by
  unfold gS gS1 va_up upd
  by_cases h : a = k
  · subst h
    by_cases h2 : i = j <;> simp [h2]
  · simp [h]
theorem gL_L1 (G : gP) (k j a i : Nat) (v : Int64) : gL (gL1 G k j v) a i = if a = k ∧ i = j then v else gL G a i := by
  unfold gL gL1 va_up vp_updL
  by_cases h : a = k
  · subst h
    by_cases h2 : i = j <;> simp [h2]
  · simp [h]
theorem gR_R1 (G : gP) (k j a i : Nat) (v : Option Nat) : gR (gR1 G k j v) a i = if a = k ∧ i = j then v else gR G a i := by
  unfold gR gR1 va_up
  by_cases h : a = k
  · subst h
    by_cases h2 : i = j <;> simp [h2]
  · simp [h]
theorem gS_L1 (G : gP) (k j a i : Nat) (v : Int64) : gS (gL1 G k j v) a i = gS G a i := rfl
theorem gS_R1 (G : gP) (k j a i : Nat) (v : Option Nat) : gS (gR1 G k j v) a i = gS G a i := rfl
theorem gL_S1 (G : gP) (k j a i : Nat) (v : Int32) : gL (gS1 G k j v) a i = gL G a i := rfl
theorem gL_R1 (G : gP) (k j a i : Nat) (v : Option Nat) : gL (gR1 G k j v) a i = gL G a i := rfl
theorem gR_S1 (G : gP) (k j a i : Nat) (v : Int32) : gR (gS1 G k j v) a i = gR G a i := rfl
theorem gR_L1 (G : gP) (k j a i : Nat) (v : Int64) : gR (gL1 G k j v) a i = gR G a i := rfl
/-- a field: 0 int, 1 long, 2 a reference that may change, 3 the cell that many ids behind it, else the cell of that id -/
def gF (ad : Nat → Nat) (G : gP) (k : Nat) (q : Nat × Nat) (j : Nat) : Value :=
  match q.1 with
  | 0 => .int (gS G k j)
  | 1 => .long (gL G k j)
  | 2 => va_rf ((gR G k j).map ad)
  | 3 => .ref (ad (k + q.2))
  | _ => .ref (ad q.2)
/-- the tables of a side: of a class how many fields, of a field what it is, of an array that never changes its first element's id -/
abbrev gB : Type := (Nat → Nat) × (Nat → Nat → Nat × Nat) × (Nat → Nat)
def gFs (B : gB) (ad : Nat → Nat) (G : gP) (k c : Nat) : List Value := (List.range (B.1 c)).map (fun j => gF ad G k (B.2.1 c j) j)
/-- a cell by its shape: below 100 an object of that class; 100 ints, 101 longs, 102 chars, 103 bytes, 104 shorts, 105 .. references; from 200 on arrays of references that never change -/
def gC (B : gB) (dA : Nat → ClassId) (ad : Nat → Nat) (G : gP) (T : Nat → Nat × Nat) (k : Nat) : va_E :=
  if (T k).1 < 100 then .inr ((T k).1, gFs B ad G k (T k).1)
  else if (T k).1 = 101 then .inl (dA 1, (T k).2, .inr (.inl (G.2.1 k)))
  else if (T k).1 < 105 then .inl (dA ((T k).1 - 100), (T k).2, .inl (G.1 k))
  else if (T k).1 < 200 then .inl (dA ((T k).1 - 100), (T k).2, .inr (.inr (.inr (.inr (fun j => (G.2.2 k j).map ad)))))
  else .inl (dA ((T k).1 - 200), (T k).2, .inr (.inr (.inr (.inr (fun j => if j < (T k).2 then some (ad (B.2.2 (T k).1 + j)) else none)))))
def gws (B : gB) (dA : Nat → ClassId) (ad : Nat → Nat) (G : gP) (T : Nat → Nat × Nat) (I : List Nat) : va_W := I.map (fun k => (ad k, gC B dA ad G T k))
theorem gws_get {B : gB} {dA : Nat → ClassId} {ad : Nat → Nat} {G : gP} {T : Nat → Nat × Nat} {I : List Nat} {i k : Nat} (hk : I[i]? = some k) : (gws B dA ad G T I)[i]? = some (ad k, gC B dA ad G T k) := by
  unfold gws
  rw [List.getElem?_map, hk]
  rfl
theorem gws_at {B : gB} {dA : Nat → ClassId} {ad : Nat → Nat} {G : gP} {T : Nat → Nat × Nat} {I : List Nat} {k : Nat} (hk : k ∈ I) : ∃ i : Nat, I[i]? = some k ∧ (gws B dA ad G T I)[i]? = some (ad k, gC B dA ad G T k) := by
  obtain ⟨i, hi⟩ := List.getElem?_of_mem hk
  exact ⟨i, hi, gws_get hi⟩
theorem gws_set {B : gB} {dA : Nat → ClassId} {ad : Nat → Nat} {A : Nat → Prop} {G G' : gP} {T : Nat → Nat × Nat} {I : List Nat} {i k : Nat} {e : va_E} (hD : va_D A (gws B dA ad G T I)) (hk : I[i]? = some k) (he : gC B dA ad G' T k = e) (ho : ∀ j, j ∈ I → j ≠ k → gC B dA ad G' T j = gC B dA ad G T j) : (gws B dA ad G T I).set i (ad k, e) = gws B dA ad G' T I := by
  have hi : i < I.length := (List.getElem?_eq_some_iff.mp hk).1
  have hl : ∀ X : gP, (gws B dA ad X T I).length = I.length := fun X => by simp [gws]
  apply List.ext_getElem?
  intro j
  by_cases hj : j = i
  · subst hj
    rw [List.getElem?_set_self (by rw [hl]; exact hi), gws_get hk, he]
  · rw [List.getElem?_set_ne (Ne.symm hj)]
    cases hjk : I[j]? with
    | none =>
      have h1 : I.length ≤ j := List.getElem?_eq_none_iff.mp hjk
      rw [List.getElem?_eq_none (by rw [hl]; exact h1), List.getElem?_eq_none (by rw [hl]; exact h1)]
    | some n =>
      have hne : n ≠ k := fun z => by
        subst z
        exact hj (hD.1 j i _ _ (gws_get hjk) (gws_get hk) rfl)
      rw [gws_get hjk, gws_get hjk, ho n (List.mem_of_getElem? hjk) hne]
theorem gC_obj {B : gB} {dA : Nat → ClassId} {ad : Nat → Nat} {G : gP} {T : Nat → Nat × Nat} {k c : Nat} (h : (T k).1 = c) (hc : c < 100) : gC B dA ad G T k = .inr (c, gFs B ad G k c) := by
  subst h
  unfold gC
  rw [if_pos hc]
theorem gC_long {B : gB} {dA : Nat → ClassId} {ad : Nat → Nat} {G : gP} {T : Nat → Nat × Nat} {k n : Nat} (h : T k = (101, n)) : gC B dA ad G T k = .inl (dA 1, n, .inr (.inl (G.2.1 k))) := by
  unfold gC
  rw [h]
  rfl
theorem gC_int {B : gB} {dA : Nat → ClassId} {ad : Nat → Nat} {G : gP} {T : Nat → Nat × Nat} {k t n : Nat} (h : T k = (t, n)) (ht : t = 100 ∨ t = 102 ∨ t = 103 ∨ t = 104) : gC B dA ad G T k = .inl (dA (t - 100), n, .inl (G.1 k)) := by
  unfold gC
  rw [h]
  rcases ht with rfl | rfl | rfl | rfl <;> rfl
theorem gC_ref {B : gB} {dA : Nat → ClassId} {ad : Nat → Nat} {G : gP} {T : Nat → Nat × Nat} {k t n : Nat} (h : T k = (t, n)) (ht : 105 ≤ t ∧ t < 200) : gC B dA ad G T k = .inl (dA (t - 100), n, .inr (.inr (.inr (.inr (fun j => (G.2.2 k j).map ad))))) := by
  unfold gC
  rw [h]
  dsimp only
  rw [if_neg (by omega), if_neg (by omega), if_neg (by omega), if_pos (by omega)]
theorem gC_con {B : gB} {dA : Nat → ClassId} {ad : Nat → Nat} {G : gP} {T : Nat → Nat × Nat} {k t n : Nat} (h : T k = (t, n)) (ht : 200 ≤ t) : gC B dA ad G T k = .inl (dA (t - 200), n, .inr (.inr (.inr (.inr (fun j => if j < n then some (ad (B.2.2 t + j)) else none))))) := by
  unfold gC
  rw [h]
  dsimp only
  rw [if_neg (by omega), if_neg (by omega), if_neg (by omega), if_neg (by omega)]
theorem gC_off {B : gB} {dA : Nat → ClassId} {ad : Nat → Nat} {G G' : gP} {T : Nat → Nat × Nat} {j : Nat} (h1 : G'.1 j = G.1 j) (h2 : G'.2.1 j = G.2.1 j) (h3 : G'.2.2 j = G.2.2 j) : gC B dA ad G' T j = gC B dA ad G T j := by
  have e : gFs B ad G' j (T j).1 = gFs B ad G j (T j).1 := by
    unfold gFs gF gS gL gR
    rw [h1, h2, h3]
  unfold gC
  rw [h1, h2, h3, e]
theorem gFs_at {B : gB} {ad : Nat → Nat} {G : gP} {k c j n : Nat} (hn : B.1 c = n) (hj : j < n) : (gFs B ad G k c)[j]? = some (gF ad G k (B.2.1 c j) j) := by
  unfold gFs
  rw [hn, List.getElem?_map, List.getElem?_range hj]
  rfl
theorem gFs_len {B : gB} {ad : Nat → Nat} {G : gP} {k c n : Nat} (hn : B.1 c = n) : (gFs B ad G k c).length = n := by simp [gFs, hn]
theorem gFs_set {B : gB} {ad : Nat → Nat} {G G' : gP} {k c j n : Nat} {v : Value} (hn : B.1 c = n) (hj : j < n) (hv : gF ad G' k (B.2.1 c j) j = v) (ho : ∀ i, i ≠ j → gF ad G' k (B.2.1 c i) i = gF ad G k (B.2.1 c i) i) : gFs B ad G' k c = (gFs B ad G k c).set j v := by
  apply List.ext_getElem?
  intro i
  by_cases hi : i = j
  · subst hi
    rw [List.getElem?_set_self (by rw [gFs_len hn]; exact hj), gFs_at hn hj, hv]
  · rw [List.getElem?_set_ne (Ne.symm hi)]
    by_cases hin : i < n
    · rw [gFs_at hn hin, gFs_at hn hin, ho i hi]
    · rw [List.getElem?_eq_none (by rw [gFs_len hn]; omega), List.getElem?_eq_none (by rw [gFs_len hn]; omega)]
theorem gF_S1 {ad : Nat → Nat} {G : gP} {k j : Nat} {v : Int32} (q : Nat × Nat) (i : Nat) (h : i ≠ j) : gF ad (gS1 G k j v) k q i = gF ad G k q i := by
  unfold gF
  rw [gS_S1, gL_S1, gR_S1, if_neg (fun z => h z.2)]
theorem gF_L1 {ad : Nat → Nat} {G : gP} {k j : Nat} {v : Int64} (q : Nat × Nat) (i : Nat) (h : i ≠ j) : gF ad (gL1 G k j v) k q i = gF ad G k q i := by
  unfold gF
  rw [gS_L1, gL_L1, gR_L1, if_neg (fun z => h z.2)]
theorem gF_R1 {ad : Nat → Nat} {G : gP} {k j : Nat} {v : Option Nat} (q : Nat × Nat) (i : Nat) (h : i ≠ j) : gF ad (gR1 G k j v) k q i = gF ad G k q i := by
  unfold gF
  rw [gS_R1, gL_R1, gR_R1, if_neg (fun z => h z.2)]
theorem gws_S1 {B : gB} {dA : Nat → ClassId} {ad : Nat → Nat} {A : Nat → Prop} {G : gP} {T : Nat → Nat × Nat} {I : List Nat} {i k j : Nat} {v : Int32} {e : va_E} (hD : va_D A (gws B dA ad G T I)) (hk : I[i]? = some k) (he : gC B dA ad (gS1 G k j v) T k = e) : (gws B dA ad G T I).set i (ad k, e) = gws B dA ad (gS1 G k j v) T I :=
  gws_set hD hk he (fun _ _ hi => gC_off (va_up_ne G.1 _ hi) rfl rfl)
theorem gws_L1 {B : gB} {dA : Nat → ClassId} {ad : Nat → Nat} {A : Nat → Prop} {G : gP} {T : Nat → Nat × Nat} {I : List Nat} {i k j : Nat} {v : Int64} {e : va_E} (hD : va_D A (gws B dA ad G T I)) (hk : I[i]? = some k) (he : gC B dA ad (gL1 G k j v) T k = e) : (gws B dA ad G T I).set i (ad k, e) = gws B dA ad (gL1 G k j v) T I :=
  gws_set hD hk he (fun _ _ hi => gC_off rfl (va_up_ne G.2.1 _ hi) rfl)
theorem gws_R1 {B : gB} {dA : Nat → ClassId} {ad : Nat → Nat} {A : Nat → Prop} {G : gP} {T : Nat → Nat × Nat} {I : List Nat} {i k j : Nat} {v : Option Nat} {e : va_E} (hD : va_D A (gws B dA ad G T I)) (hk : I[i]? = some k) (he : gC B dA ad (gR1 G k j v) T k = e) : (gws B dA ad G T I).set i (ad k, e) = gws B dA ad (gR1 G k j v) T I :=
  gws_set hD hk he (fun _ _ hi => gC_off rfl rfl (va_up_ne G.2.2 _ hi))
/-- a check in a pure function -/
def gck {α : Type} (b : Bool) (x : Option α) : Option α := if b = true then x else none
theorem gck_some {α : Type} {b : Bool} {x : Option α} {r : α} (h : gck b x = some r) : b = true ∧ x = some r := by
  unfold gck at h
  split at h
  · exact ⟨by assumption, h⟩
  · cases h
def gIn (i : Int32) (n : Nat) : Bool := decide (¬ (i < 0 ∨ n ≤ i.toNatClampNeg))
theorem gIn_in {i : Int32} {n : Nat} (h : gIn i n = true) : vp_in i n := by
  unfold gIn at h
  have h2 : ¬ (i < 0 ∨ n ≤ i.toNatClampNeg) := of_decide_eq_true h
  exact h2
def gNz (x : Int32) : Bool := decide (¬ x = 0)
def gNzL (x : Int64) : Bool := decide (¬ x = 0)
def gLet {α β : Type} (a : α) (f : α → β) : β := f a
theorem gLet_some {α β : Type} {a : α} {f : α → β} {r : β} (h : gLet a f = r) : ∃ x, x = a ∧ f x = r := ⟨a, rfl, h⟩
theorem gbind {α β : Type} {a : Option α} {f : α → Option β} {r : β} (h : a.bind f = some r) : ∃ x, a = some x ∧ f x = some r := by
  cases a with
  | none => cases h
  | some x => exact ⟨x, rfl, h⟩
theorem gif_pos {c : Prop} [d : Decidable c] {α : Type} {a b r : α} (h : c) (hf : @ite α c d a b = r) : a = r := by rw [if_pos h] at hf; exact hf
theorem gif_neg {c : Prop} [d : Decidable c] {α : Type} {a b r : α} (h : ¬ c) (hf : @ite α c d a b = r) : b = r := by rw [if_neg h] at hf; exact hf
/-- a loop: what one turn does: go on (inl) or come out (inr); so many turns at most -/
def gloop {σ ρ : Type} (f : σ → Option (σ ⊕ ρ)) : Nat → σ → Option ρ
  | 0, _ => none
  | n + 1, s => (f s).bind fun r => match r with
    | .inl s' => gloop f n s'
    | .inr x => some x
theorem gloop_0 {σ ρ : Type} {f : σ → Option (σ ⊕ ρ)} {s : σ} {r : ρ} (h : gloop f 0 s = some r) : False := by cases h
theorem gloop_s {σ ρ : Type} {f : σ → Option (σ ⊕ ρ)} {n : Nat} {s : σ} {r : ρ} (h : gloop f (n + 1) s = some r) : (∃ s', f s = some (.inl s') ∧ gloop f n s' = some r) ∨ f s = some (.inr r) := by
  unfold gloop at h
  obtain ⟨x, h1, h2⟩ := gbind h
  cases x with
  | inl s' => exact Or.inl ⟨s', h1, h2⟩
  | inr x => cases h2; exact Or.inr h1

def gRem (x y : Int32) : Int32 := x - x / y * y
def gRemL (x y : Int64) : Int64 := x - x / y * y
def gShl (x y : Int32) : Int32 := x <<< (y &&& 31)
def gShr (x y : Int32) : Int32 := x >>> (y &&& 31)
def gUshr (x y : Int32) : Int32 := (x.toUInt32 >>> (y.toUInt32 &&& Int32.toUInt32 31)).toInt32
def gShlL (x : Int64) (y : Int32) : Int64 := x <<< (y.toInt64 &&& 63)
def gShrL (x : Int64) (y : Int32) : Int64 := x >>> (y.toInt64 &&& 63)
def gUshrL (x : Int64) (y : Int32) : Int64 := (x.toUInt64 >>> (y.toInt64.toUInt64 &&& Int64.toUInt64 63)).toInt64
def gMax (x y : Int32) : Int32 := if x < y then y else x
def gMin (x y : Int32) : Int32 := if y < x then y else x
def gFu : Nat := 18446744073709551616
def gnx {σ ρ : Type} (f : σ → Option (σ ⊕ ρ)) (n : Nat) (z : σ ⊕ ρ) : Option ρ := match z with
  | .inl s => gloop f n s
  | .inr x => some x
def gsum {α β γ : Type} (z : α ⊕ β) (f : α → γ) (h : β → γ) : γ := match z with
  | .inl a => f a
  | .inr b => h b
def gZ (x : Int32) : Bool := decide (x = 0 ∨ x = 1)
def mK : Nat → Nat × Nat := fun j => match j with
  | 0 => (4, 1)
  | 1 => (4, 2)
  | 2 => (4, 3)
  | 3 => (0, 0)
  | 4 => (0, 0)
  | 5 => (4, 4)
  | 6 => (0, 0)
  | 7 => (0, 0)
  | 8 => (0, 0)
  | 9 => (0, 0)
  | 10 => (0, 0)
  | 11 => (0, 0)
  | 12 => (4, 5)
  | 13 => (0, 0)
  | 14 => (0, 0)
  | 15 => (0, 0)
  | 16 => (4, 6)
  | 17 => (4, 7)
  | 18 => (4, 8)
  | 19 => (4, 9)
  | 20 => (4, 10)
  | 21 => (0, 0)
  | 22 => (4, 11)
  | 23 => (0, 0)
  | 24 => (0, 0)
  | 25 => (4, 12)
  | 26 => (4, 13)
  | 27 => (0, 0)
  | 28 => (4, 14)
  | 29 => (0, 0)
  | 30 => (4, 15)
  | 31 => (4, 16)
  | 32 => (0, 0)
  | 33 => (4, 17)
  | 34 => (4, 18)
  | 35 => (4, 19)
  | _ => (4, 20)
def mB : gB := (fun _ => 37, fun _ j => mK j, fun _ => 0)
def mT : Nat → Nat × Nat := fun k => match k with
  | 0 => (11, 0)
  | 1 => (100, 76)
  | 2 => (100, 8)
  | 3 => (100, 9)
  | 4 => (100, 8)
  | 5 => (100, 8)
  | 6 => (100, 256)
  | 7 => (100, 60)
  | 8 => (101, 128)
  | 9 => (100, 128)
  | 10 => (100, 8)
  | 11 => (100, 120)
  | 12 => (100, 72)
  | 13 => (100, 10)
  | 14 => (100, 608)
  | 15 => (100, 76)
  | 16 => (100, 608)
  | 17 => (100, 4)
  | 18 => (100, 4)
  | 19 => (101, 96)
  | _ => (101, 24)
def mI : List Nat := List.range 21
def gSc (G : gP) (a sp b dp n : Nat) : gP := (va_up G.1 b (va_cpy (G.1 a) (G.1 b) sp dp n), G.2.1, G.2.2)
def gRc (G : gP) (a sp b dp n : Nat) : gP := (G.1, G.2.1, va_up G.2.2 b (va_cpy (G.2.2 a) (G.2.2 b) sp dp n))
def gCp (sp dp n : Int32) (n0 n1 : Nat) : Bool := decide (¬ sp < 0 ∧ ¬ dp < 0 ∧ ¬ n < 0 ∧ sp.toNatClampNeg + n.toNatClampNeg ≤ n0 ∧ dp.toNatClampNeg + n.toNatClampNeg ≤ n1)
def xNf : Nat → Nat := fun c => match c with
  | 0 => 22
  | 6 => 5
  | 7 => 3
  | 8 => 7
  | 9 => 1
  | 10 => 6
  | 13 => 8
  | 14 => 8
  | 15 => 4
  | 16 => 4
  | 17 => 4
  | 18 => 5
  | _ => 0
def xK : Nat → Nat → Nat × Nat := fun c j => match c, j with
  | 0, 0 => (4, 1)
  | 0, 1 => (4, 32)
  | 0, 2 => (4, 2)
  | 0, 3 => (4, 3)
  | 0, 4 => (4, 4)
  | 0, 6 => (4, 5)
  | 0, 7 => (4, 6)
  | 0, 8 => (4, 7)
  | 0, 9 => (4, 8)
  | 0, 10 => (4, 9)
  | 0, 13 => (4, 58)
  | 0, 14 => (4, 10)
  | 0, 15 => (4, 11)
  | 0, 17 => (4, 84)
  | 0, 18 => (4, 12)
  | 0, 21 => (4, 13)
  | 6, 0 => (3, 1)
  | 7, 0 => (3, 1)
  | 7, 1 => (3, 2)
  | 8, 0 => (2, 0)
  | 8, 1 => (2, 0)
  | 8, 2 => (2, 0)
  | 8, 3 => (2, 0)
  | 8, 4 => (2, 0)
  | 9, 0 => (2, 0)
  | 10, 5 => (4, 0)
  | 13, 0 => (4, 0)
  | 13, 4 => (3, 1)
  | 13, 5 => (3, 2)
  | 13, 7 => (4, 0)
  | 14, 0 => (4, 0)
  | 14, 3 => (3, 1)
  | 14, 7 => (4, 0)
  | 15, 0 => (4, 0)
  | 15, 3 => (4, 0)
  | 16, 0 => (4, 0)
  | 16, 1 => (4, 526)
  | 16, 3 => (4, 0)
  | 17, 0 => (4, 0)
  | 17, 1 => (4, 526)
  | 17, 3 => (4, 0)
  | 18, 0 => (4, 0)
  | 18, 2 => (1, 0)
  | 18, 3 => (1, 0)
  | 18, 4 => (4, 0)
  | _, _ => (0, 0)
def xCB : Nat → Nat := fun t => match t with
  | 209 => 14
  | 207 => 19
  | _ => 28
def xB : gB := (xNf, xK, xCB)
def xTl (r : Nat) : Nat × Nat := if r = 0 then (6, 0) else if r = 1 then (105, 8) else if (r - 2) % 3 = 0 then (7, 0) else (100, 4)
def xTs : Nat → Nat × Nat := fun k => match k with
  | 0 => (0, 0)
  | 1 => (209, 5)
  | 2 => (100, 8)
  | 3 => (207, 9)
  | 4 => (100, 8)
  | 5 => (100, 480)
  | 6 => (100, 480)
  | 7 => (100, 60)
  | 8 => (8, 0)
  | 9 => (102, 120)
  | 10 => (100, 32)
  | 11 => (106, 8)
  | 12 => (106, 8)
  | 13 => (208, 4)
  | 14 => (1, 0)
  | 15 => (2, 0)
  | 16 => (3, 0)
  | 17 => (4, 0)
  | 18 => (5, 0)
  | 19 => (10, 0)
  | 20 => (10, 0)
  | 21 => (10, 0)
  | 22 => (10, 0)
  | 23 => (10, 0)
  | 24 => (10, 0)
  | 25 => (10, 0)
  | 26 => (10, 0)
  | 27 => (10, 0)
  | 28 => (9, 0)
  | 29 => (9, 0)
  | 30 => (9, 0)
  | _ => (9, 0)
def xTd : Nat → Nat × Nat := fun k => match k with
  | 526 => (13, 0)
  | 527 => (100, 8)
  | 528 => (100, 8)
  | 529 => (14, 0)
  | 530 => (101, 8)
  | 531 => (15, 0)
  | 532 => (16, 0)
  | 533 => (17, 0)
  | 534 => (18, 0)
  | 535 => (7, 0)
  | 536 => (100, 4)
  | 537 => (100, 4)
  | _ => (100, 9)
def xT (k : Nat) : Nat × Nat := if k < 32 then xTs k else if k < 526 then xTl ((k - 32) % 26) else xTd k
def xWorth (j : Nat) : Int32 := if j < 20 then nI j else if j < 28 then nI (10 * (j - 18)) else if j = 28 then 100 else if j = 29 then 1000 else 0
def xNcL : List (String × String) := [("[B", "[S"), ("[B", "[I"), ("[B", "[J"), ("[S", "[B"), ("[S", "[I"), ("[S", "[J"), ("[I", "[B"), ("[I", "[S"), ("[I", "[J"), ("[J", "[B"), ("[J", "[S"), ("[J", "[I"), ("java/lang/ClassCastException", "java/lang/NullPointerException"), ("java/lang/ArrayIndexOutOfBoundsException", "java/lang/NullPointerException"), ("java/lang/ArrayIndexOutOfBoundsException", "java/lang/ClassCastException"), ("java/lang/ArrayStoreException", "java/lang/NullPointerException"), ("java/lang/ArrayIndexOutOfBoundsException", "java/lang/ArrayStoreException")]
def xOK (T : Nat → Nat × Nat) (I : List Nat) : Prop := (∀ k, k < 526 → k ∈ I) ∧ (∀ k, k < 539 → T k = xT k) ∧ (526 ∈ I → 527 ∈ I ∧ 528 ∈ I) ∧ (529 ∈ I → 530 ∈ I) ∧ (535 ∈ I → 536 ∈ I ∧ 537 ∈ I) ∧ (532 ∈ I → 526 ∈ I) ∧ (533 ∈ I → 526 ∈ I) ∧ ∀ k, 539 ≤ k → (k ∈ I ↔ 100 ≤ (T k).1) ∧ (T k).1 < 105
def xOb (T : Nat → Nat × Nat) (I : List Nat) (c k : Nat) : Prop := k ∈ I ∧ (T k).1 = c
def xSl (T : Nat → Nat × Nat) (I : List Nat) (k : Nat) : Prop := k ∈ I ∧ (T k).1 = 7 ∧ k + 1 ∈ I ∧ T (k + 1) = (100, 4) ∧ k + 2 ∈ I ∧ T (k + 2) = (100, 4)
def xLa (T : Nat → Nat × Nat) (I : List Nat) (k : Nat) : Prop := k ∈ I ∧ (T k).1 = 6 ∧ k + 1 ∈ I ∧ T (k + 1) = (105, 8)
def xLi (T : Nat → Nat × Nat) (I : List Nat) (k : Nat) : Prop := k ∈ I ∧ (k = 526 ∨ k = 529 ∨ k = 531 ∨ k = 532 ∨ k = 533 ∨ k = 534)
def xRef (o : Option Nat) (c : Nat) : Option Nat := o.bind fun k => if k < 526 ∧ (xT k).1 = c then some k else none
def gEl (G : gP) (a sp n c : Nat) : Bool := (List.range n).all fun i => match gR G a (sp + i) with
  | some k => decide (k < 526 ∧ (xT k).1 = c)
  | none => true
def xRk (G : gP) : Prop := ∀ k j n, gR G k j = some n → n < 526 ∨ 539 ≤ n
noncomputable def gDec (p : Prop) : Bool := @decide p (Classical.propDecidable p)
def xAg (ad ad' : Nat → Nat) : Prop := ∀ k, (k < 526 ∨ 539 ≤ k) → ad' k = ad k
def xNm (i : Nat) : String := match i with
  | 0 => "[I"
  | 1 => "[J"
  | 3 => "[B"
  | _ => "[S"
def xRw (T : Nat → Nat × Nat) (n : Nat) : Bool := decide (539 ≤ n ∧ ((T n).1 = 100 ∨ (T n).1 = 101 ∨ (T n).1 = 103 ∨ (T n).1 = 104))
def xRq (T : Nat → Nat × Nat) (o : Option Nat) : Bool := match o with
  | some n => xRw T n
  | none => true
def xIs (T : Nat → Nat × Nat) (o : Option Nat) (t : Nat) : Int32 := match o with
  | some n => if (T n).1 = t then 1 else 0
  | none => 0
def xCa (T : Nat → Nat × Nat) (o : Option Nat) (t : Nat) : Option Nat := o.bind fun n => if 539 ≤ n ∧ (T n).1 = t then some n else none
def xI0 (I : List Nat) : List Nat := I.filter (fun k => decide (k < 526 ∨ 539 ≤ k))
def gSa (G : gP) (k : Nat) (f : Nat → Int32) : gP := (va_up G.1 k f, G.2.1, G.2.2)
def gLa (G : gP) (k : Nat) (f : Nat → Int64) : gP := (G.1, va_up G.2.1 k f, G.2.2)
def xI1 (I : List Nat) : List Nat := I.filter (fun k => decide ((k < 526 ∨ 539 ≤ k) ∨ (526 ≤ k ∧ k ≤ 528)))
def xI2 (I : List Nat) : List Nat := I.filter (fun k => decide ((k < 526 ∨ 539 ≤ k) ∨ k = 538))
def xMk13 (G : gP)  : gP := (gSa (gSa (gSa G 527 (fun _ => 0)) 528 (fun _ => 0)) 526 (fun j => if j = 3 then 1000000 else 0))
def xI13 (I : List Nat) : List Nat := xI0 I ++ [527] ++ [528] ++ [526]
def xMk14 (G : gP) (a2 : Int32) (a3 : Int32) : gP := (gSa (gLa G 530 (fun _ => 0)) 529 (fun j => if j = 1 then a2 else if j = 4 then a3 else 0))
def xI14 (I : List Nat) : List Nat := xI0 I ++ [530] ++ [529]
def xMk15 (G : gP) (a2 : Int32) : gP := (gSa G 531 (fun j => if j = 1 then a2 else 0))
def xI15 (I : List Nat) : List Nat := xI0 I ++ [531]
def xMk16 (G : gP)  : gP := (gSa G 532 (fun j => if j = 2 then 1000000 else 0))
def xI16 (I : List Nat) : List Nat := xI1 I ++ [532]
def xMk17 (G : gP)  : gP := (gSa G 533 (fun _ => 0))
def xI17 (I : List Nat) : List Nat := xI1 I ++ [533]
def xMk18 (G : gP) (a2 : Int32) : gP := (gSa (gLa G 534 (fun _ => 0)) 534 (fun j => if j = 1 then a2 else 0))
def xI18 (I : List Nat) : List Nat := xI0 I ++ [534]
def xMk7 (G : gP) (a1 : Int32) : gP := (gSa (gSa (gSa G 536 (upd (fun _ => 0) (0 : Int32).toNatClampNeg a1)) 537 (upd (fun _ => 0) (0 : Int32).toNatClampNeg 0)) 535 (fun j => if j = 2 then 0 + 1 else 0))
def xI7 (I : List Nat) : List Nat := xI2 I ++ [536] ++ [537] ++ [535]
def f_X11_in (a0 : Int64) (a2 : Int64) (a4 : Int64) : Int32 :=
  if a0 < a2 then (0 : Int32) else if a4 < a0 then (0 : Int32) else (1 : Int32)
def f_X11_isSlot (G : gP) (a1 : Int32) : Int32 :=
  f_X11_in a1.toInt64 (0 : Int64) (((gS G 1 0) - (1 : Int32)).toInt64)
def f_X11_at (a1 : Int32) : Int32 :=
  (4 : Int32) + ((9 : Int32) * a1)
def f_X11_slot (G : gP) (a1 : Int32) (a2 : Int32) (a3 : Int32) : Option (Int32) :=
  if (f_X11_isSlot G a1) = 0 then some (-1 : Int32) else if a2 < (-1 : Int32) then some (-1 : Int32) else if (f_X11_in a3.toInt64 (0 : Int64) (1 : Int64)) = 0 then some (-1 : Int32) else if a2 = (-1 : Int32) then gck (gIn (f_X11_at a1) 76) (some (gS G 1 (f_X11_at a1).toNatClampNeg)) else gck (gIn (f_X11_at a1) 76) (if (gS G 1 (f_X11_at a1).toNatClampNeg) ≤ a2 then some (-4 : Int32) else gck (gIn ((((f_X11_at a1) + (1 : Int32)) + ((4 : Int32) * a3)) + a2) 76) (some (gS G 1 ((((f_X11_at a1) + (1 : Int32)) + ((4 : Int32) * a3)) + a2).toNatClampNeg)))
def f_X11_readings_b17 (G : gP) (q4 : Int32 × Int32) : Option ((Int32 × Int32) ⊕ (Int32)) :=
  if (gS G 1 0) ≤ q4.2 then some (.inr q4.1) else gck (gIn (f_X11_at q4.2) 76) (gLet (q4.1 * (gS G 1 (f_X11_at q4.2).toNatClampNeg)) fun x11 => some (.inl (x11, q4.2 + 1)))
def f_X11_readings (G : gP) : Option (Int32) :=
  gLet (if (gS G 1 0) = 0 then (0 : Int32) else (1 : Int32)) fun q1 => (gloop (f_X11_readings_b17 G) gFu (q1, (0 : Int32))).bind fun q5 => some q5
def f_X11_wordHere (G : gP) : Option (Int32) :=
  if (gS G 0 3) ≤ (gS G 0 7) then some (-4 : Int32) else gck (gIn (gS G 0 7) 9) (some (gS G 3 (gS G 0 7).toNatClampNeg))
def f_X11_worth (a0 : Int32) : Int32 :=
  if (f_X11_in a0.toInt64 (1 : Int64) (19 : Int64)) = 0 then if (f_X11_in a0.toInt64 (20 : Int64) (27 : Int64)) = 0 then (0 : Int32) else ((10 : Int32) * a0) - (180 : Int32) else a0
def f_X11_low (G : gP) : Option (gP × Int32) :=
  (f_X11_wordHere G).bind fun q1 => gLet (f_X11_worth q1) fun x3 => if x3 = 0 then some (G, (0 : Int32)) else gLet (gS1 G 0 7 ((gS G 0 7) + (1 : Int32))) fun G6 => if q1 ≤ (19 : Int32) then some (G6, x3) else (f_X11_wordHere G6).bind fun q9 => if (f_X11_in q9.toInt64 (1 : Int64) (9 : Int64)) = 0 then some (G6, x3) else (f_X11_wordHere G6).bind fun q13 => gLet (x3 + q13) fun x15 => gLet (gS1 G6 0 7 ((gS G6 0 7) + (1 : Int32))) fun G17 => some (G17, x15)
def f_X11_more (G : gP) : Option (gP × Int32) :=
  (f_X11_wordHere G).bind fun q1 => gLet (if q1 = (30 : Int32) then (1 : Int32) else (0 : Int32)) fun q3 => gLet (if q3 = 0 then (0 : Int32) else (1 : Int32)) fun q6 => gLet (gS1 G 0 7 ((gS G 0 7) + q6)) fun G9 => (f_X11_low G9).bind fun q11 => if q3 = 0 then some (q11.1, q11.2) else if q11.2 = 0 then some (q11.1, (-4 : Int32)) else some (q11.1, q11.2)
def f_X11_small (G : gP) : Option (gP × Int32) :=
  (f_X11_wordHere G).bind fun q1 => Option.bind (if (f_X11_in q1.toInt64 (1 : Int64) (9 : Int64)) = 0 then some (0 : Int32) else if (gS G 0 3) ≤ ((gS G 0 7) + (1 : Int32)) then some (0 : Int32) else gck (gIn ((gS G 0 7) + (1 : Int32)) 9) (if (gS G 3 ((gS G 0 7) + (1 : Int32)).toNatClampNeg) = (28 : Int32) then some (1 : Int32) else some (0 : Int32))) fun q4 => if q4 = 0 then (f_X11_low G).bind fun q17 => some (q17.1, q17.2) else (f_X11_wordHere G).bind fun q8 => gLet ((100 : Int32) * q8) fun x10 => gLet (gS1 G 0 7 ((gS G 0 7) + (2 : Int32))) fun G12 => (f_X11_more G12).bind fun q14 => if 0 ≤ q14.2 then some (q14.1, x10 + q14.2) else some (q14.1, (-4 : Int32))
def f_X11_number (G : gP) : Option (gP × Int32) :=
  (f_X11_small G).bind fun q1 => if q1.2 ≤ 0 then some (q1.1, q1.2) else (f_X11_wordHere q1.1).bind fun q4 => if q4 = (29 : Int32) then gLet (gS1 q1.1 0 7 ((gS q1.1 0 7) + (1 : Int32))) fun G7 => (f_X11_wordHere G7).bind fun q9 => Option.bind (if q9 = (30 : Int32) then (f_X11_more G7).bind fun q18 => some (q18.1, q18.2) else (f_X11_small G7).bind fun q16 => some (q16.1, q16.2)) fun q11 => if 0 ≤ q11.2 then some (q11.1, ((1000 : Int32) * q1.2) + q11.2) else some (q11.1, (-4 : Int32)) else some (q1.1, q1.2)
def f_X11_isSaid_b14  (q5 : gP × Int32 × Int32) : Option ((gP × Int32 × Int32) ⊕ (gP × Int32)) :=
  if q5.2.1 = 0 then some (.inr (q5.1, q5.2.1)) else if q5.2.2 = 0 then some (.inr (q5.1, q5.2.1)) else (f_X11_number q5.1).bind fun q12 => (f_X11_wordHere q12.1).bind fun q14 => gLet (if q14 = (31 : Int32) then (1 : Int32) else (0 : Int32)) fun q16 => gLet (if q12.2 ≤ 0 then (0 : Int32) else if q16 = 0 then if (gS q12.1 0 7) = (gS q12.1 0 3) then (1 : Int32) else (0 : Int32) else (1 : Int32)) fun q19 => gck (gIn (gS q12.1 0 6) 8) (gLet (gS1 q12.1 4 (gS q12.1 0 6).toNatClampNeg q12.2) fun G23 => gLet (gS1 G23 0 6 ((gS G23 0 6) + (1 : Int32))) fun G25 => if q16 = 0 then gLet (gS1 G25 0 7 ((gS G25 0 7) + (0 : Int32))) fun G28 => some (.inl (G28, q19, q16)) else gLet (gS1 G25 0 7 ((gS G25 0 7) + (1 : Int32))) fun G30 => some (.inl (G30, q19, q16)))
def f_X11_isSaid (G : gP) : Option (gP × Int32) :=
  gLet (gS1 G 0 7 (0 : Int32)) fun G1 => gLet (gS1 G1 0 6 (0 : Int32)) fun G3 => (gloop (f_X11_isSaid_b14) gFu (G3, (1 : Int32), (1 : Int32))).bind fun q6 => gck (gZ q6.2) (some (q6.1, q6.2))
def f_X11_takesPicked_b12  (q5 : gP × Int32) : Option ((gP × Int32) ⊕ (gP)) :=
  if (gS q5.1 1 0) ≤ q5.2 then some (.inr q5.1) else gck (gIn q5.2 8) (gck (gIn (((f_X11_at q5.2) + (1 : Int32)) + (gS q5.1 2 q5.2.toNatClampNeg)) 76) (gLet (gS q5.1 1 (((f_X11_at q5.2) + (1 : Int32)) + (gS q5.1 2 q5.2.toNatClampNeg)).toNatClampNeg) fun x13 => gck (gIn q5.2 8) (gck (gIn (((f_X11_at q5.2) + (5 : Int32)) + (gS q5.1 2 q5.2.toNatClampNeg)) 76) (gLet (gS1 q5.1 0 4 ((gS q5.1 0 4) + (gS q5.1 1 (((f_X11_at q5.2) + (5 : Int32)) + (gS q5.1 2 q5.2.toNatClampNeg)).toNatClampNeg))) fun G17 => if x13 = 0 then some (.inl (G17, q5.2 + 1)) else gck (gIn (gS G17 0 3) 9) (gLet (gS1 G17 3 (gS G17 0 3).toNatClampNeg x13) fun G21 => gLet (gS1 G21 0 3 ((gS G21 0 3) + (1 : Int32))) fun G23 => some (.inl (G23, q5.2 + 1)))))))
def f_X11_takesPicked (G : gP) : Option (gP × Int32) :=
  gLet (gS1 G 0 3 (0 : Int32)) fun G1 => gLet (gS1 G1 0 4 (0 : Int32)) fun G3 => (gloop (f_X11_takesPicked_b12) gFu (G3, (0 : Int32))).bind fun q6 => (f_X11_isSaid q6).bind fun q25 => some (q25.1, q25.2)
def f_X11_takes_b11  (q3 : gP × Int32 × Int32) : Option ((gP × Int32 × Int32) ⊕ (gP)) :=
  if q3.2.2 < 0 then some (.inr q3.1) else gck (gIn (f_X11_at q3.2.2) 76) (gck (gNz (gS q3.1 1 (f_X11_at q3.2.2).toNatClampNeg)) (gck (gIn q3.2.2 8) (gLet (gS1 q3.1 2 q3.2.2.toNatClampNeg (gRem q3.2.1 (gS q3.1 1 (f_X11_at q3.2.2).toNatClampNeg))) fun G12 => gck (gIn (f_X11_at q3.2.2) 76) (gck (gNz (gS G12 1 (f_X11_at q3.2.2).toNatClampNeg)) (gLet (q3.2.1 / (gS G12 1 (f_X11_at q3.2.2).toNatClampNeg)) fun x16 => some (.inl (G12, x16, q3.2.2 + (-1))))))))
def f_X11_takes (G : gP) (a1 : Int32) : Option (gP × Int32) :=
  gLet ((gS G 1 0) - (1 : Int32)) fun x1 => (gloop (f_X11_takes_b11) gFu (G, a1, x1)).bind fun q4 => (f_X11_takesPicked q4).bind fun q18 => some (q18.1, q18.2)
def f_X11_holds_b22 (G : gP) (q4 : Int32 × Int32 × Int32 × Int32) : Option ((Int32 × Int32 × Int32 × Int32) ⊕ (Int32 × Int32 × Int32)) :=
  if (gS G 0 6) ≤ (q4.2.2.2 + (1 : Int32)) then some (.inr (q4.1, q4.2.1, q4.2.2.1)) else gck (gIn q4.2.2.2 8) (gLet (q4.1 + (gS G 4 q4.2.2.2.toNatClampNeg)) fun x11 => Option.bind (if q4.2.1 = 0 then some (0 : Int32) else gck (gIn (q4.2.2.2 + (1 : Int32)) 8) (gck (gIn q4.2.2.2 8) (if (gS G 4 (q4.2.2.2 + (1 : Int32)).toNatClampNeg) ≤ (gS G 4 q4.2.2.2.toNatClampNeg) then some (0 : Int32) else some (1 : Int32)))) fun q13 => if q4.2.2.1 = 0 then some (.inl (x11, q13, (0 : Int32), q4.2.2.2 + 1)) else gck (gIn (q4.2.2.2 + (1 : Int32)) 8) (gck (gIn q4.2.2.2 8) (if ((gS G 4 (q4.2.2.2 + (1 : Int32)).toNatClampNeg) - (gS G 4 q4.2.2.2.toNatClampNeg)) = ((gS G 4 1) - (gS G 4 0)) then some (.inl (x11, q13, (1 : Int32), q4.2.2.2 + 1)) else some (.inl (x11, q13, (0 : Int32), q4.2.2.2 + 1)))))
def f_X11_holds (G : gP) : Option (Int32) :=
  gck (gIn ((gS G 0 6) - (1 : Int32)) 8) (gLet (gS G 4 ((gS G 0 6) - (1 : Int32)).toNatClampNeg) fun x2 => (gloop (f_X11_holds_b22 G) gFu ((0 : Int32), (1 : Int32), (1 : Int32), (0 : Int32))).bind fun q5 => if (gS G 1 1) = 1 then if (gS G 0 6) ≤ (1 : Int32) then some (0 : Int32) else if q5.1 = x2 then some (1 : Int32) else some (0 : Int32) else if (gS G 1 1) = 2 then gck (gZ q5.2.1) (some q5.2.1) else if (gS G 1 1) = 3 then if (gS G 0 6) ≤ (1 : Int32) then some (0 : Int32) else if (gRem q5.1 (100 : Int32)) = (gRem x2 (100 : Int32)) then some (1 : Int32) else some (0 : Int32) else if (gS G 1 1) = 4 then if q5.2.1 = 0 then some (0 : Int32) else if q5.2.2 = 0 then some (0 : Int32) else some (1 : Int32) else some (1 : Int32))
def f_X11_finds_b30 (q9 : Int32) (q11 : gP × Int32) : Option ((gP × Int32) ⊕ (gP)) :=
  if q9 ≤ q11.2 then some (.inr q11.1) else (f_X11_takes q11.1 q11.2).bind fun q17 => if q17.2 = 0 then some (.inl (q17.1, q11.2 + 1)) else gLet (gS1 q17.1 0 8 ((gS q17.1 0 8) + (1 : Int32))) fun G21 => (f_X11_holds G21).bind fun q23 => if q23 = 0 then some (.inl (G21, q11.2 + 1)) else gLet (gS1 G21 0 9 ((gS G21 0 9) + (1 : Int32))) fun G27 => gLet (if (gS G27 0 11) ≤ (gS G27 0 4) then gS G27 0 10 else q11.2) fun q29 => gLet (gS1 G27 0 10 q29) fun G32 => if (gS G32 0 11) ≤ (gS G32 0 4) then gLet (gS1 G32 0 11 (gS G32 0 11)) fun G35 => some (.inl (G35, q11.2 + 1)) else gLet (gS1 G32 0 11 (gS G32 0 4)) fun G37 => some (.inl (G37, q11.2 + 1))
def f_X11_finds_b160  (q49 : gP × Int32) : Option ((gP × Int32) ⊕ (gP)) :=
  if (gS q49.1 0 6) ≤ q49.2 then some (.inr q49.1) else gck (gIn q49.2 8) (gck (gIn q49.2 8) (gLet (gS1 q49.1 5 q49.2.toNatClampNeg (gS q49.1 4 q49.2.toNatClampNeg)) fun G57 => some (.inl (G57, q49.2 + 1))))
def f_X11_finds (G : gP) : Option (gP) :=
  gLet (gS1 G 0 8 (0 : Int32)) fun G1 => gLet (gS1 G1 0 9 (0 : Int32)) fun G3 => gLet (gS1 G3 0 10 (-4 : Int32)) fun G5 => gLet (gS1 G5 0 11 (9999 : Int32)) fun G7 => (f_X11_readings G7).bind fun q9 => (gloop (f_X11_finds_b30 q9) gFu (G7, (0 : Int32))).bind fun q12 => gLet (gS1 q12 0 13 (0 : Int32)) fun G40 => if (gS G40 0 10) = (-4 : Int32) then some G40 else (f_X11_takes G40 (gS G40 0 10)).bind fun q43 => if q43.2 = 0 then some q43.1 else gLet (gS1 q43.1 0 13 (gS q43.1 0 6)) fun G47 => (gloop (f_X11_finds_b160) gFu (G47, (0 : Int32))).bind fun q50 => some q50
def f_X11_isAsBest_b19 (G : gP) (q4 : Int32 × Int32) : Option ((Int32 × Int32) ⊕ (Int32)) :=
  if (gS G 0 13) ≤ q4.2 then some (.inr q4.1) else if q4.1 = 0 then some (.inr q4.1) else gck (gIn q4.2 8) (gck (gIn q4.2 8) (if (gS G 4 q4.2.toNatClampNeg) = (gS G 5 q4.2.toNatClampNeg) then some (.inl ((1 : Int32), q4.2 + 1)) else some (.inl ((0 : Int32), q4.2 + 1))))
def f_X11_isAsBest (G : gP) : Option (Int32) :=
  gLet (if (gS G 0 6) = (gS G 0 13) then (1 : Int32) else (0 : Int32)) fun q1 => (gloop (f_X11_isAsBest_b19 G) gFu (q1, (0 : Int32))).bind fun q5 => gck (gZ q5) (some q5)
def f_X11_counts_b18  (q7 : gP × Int32) : Option ((gP × Int32) ⊕ (gP)) :=
  if (256 : Int32) ≤ q7.2 then some (.inr q7.1) else gck (gIn q7.2 256) (gLet (gS1 q7.1 6 q7.2.toNatClampNeg (0 : Int32)) fun G14 => some (.inl (G14, q7.2 + 1)))
def f_X11_counts_b175  (q43 : gP × Int32) : Option ((gP × Int32) ⊕ (gP)) :=
  if (gS q43.1 1 0) ≤ q43.2 then some (.inr q43.1) else gck (gIn q43.2 8) (gck (gIn (((f_X11_at q43.2) + (1 : Int32)) + (gS q43.1 2 q43.2.toNatClampNeg)) 76) (gck (gIn (((32 : Int32) * q43.2) + (gS q43.1 1 (((f_X11_at q43.2) + (1 : Int32)) + (gS q43.1 2 q43.2.toNatClampNeg)).toNatClampNeg)) 256) (gck (gIn (((32 : Int32) * q43.2) + (gS q43.1 1 (((f_X11_at q43.2) + (1 : Int32)) + (gS q43.1 2 q43.2.toNatClampNeg)).toNatClampNeg)) 256) (gLet (gS1 q43.1 6 (((32 : Int32) * q43.2) + (gS q43.1 1 (((f_X11_at q43.2) + (1 : Int32)) + (gS q43.1 2 q43.2.toNatClampNeg)).toNatClampNeg)).toNatClampNeg ((gS q43.1 6 (((32 : Int32) * q43.2) + (gS q43.1 1 (((f_X11_at q43.2) + (1 : Int32)) + (gS q43.1 2 q43.2.toNatClampNeg)).toNatClampNeg)).toNatClampNeg) + (1 : Int32))) fun G53 => some (.inl (G53, q43.2 + 1))))))
def f_X11_counts_b58 (q16 : Int32) (q19 : gP × Int32) : Option ((gP × Int32) ⊕ (gP)) :=
  if q16 ≤ q19.2 then some (.inr q19.1) else (f_X11_takes q19.1 q19.2).bind fun q25 => Option.bind (if q25.2 = 0 then some (0 : Int32) else (f_X11_holds q25.1).bind fun q66 => if q66 = 0 then some (0 : Int32) else some (1 : Int32)) fun q28 => Option.bind (if q28 = 0 then some (gS q25.1 0 14) else if (gS q25.1 0 14) ≤ (gS q25.1 0 4) then some (gS q25.1 0 14) else (f_X11_isAsBest q25.1).bind fun q61 => if q61 = 0 then some (gS q25.1 0 4) else some (gS q25.1 0 14)) fun q31 => gLet (gS1 q25.1 0 14 q31) fun G34 => if q28 = 0 then some (.inl (G34, q19.2 + 1)) else if ((gS G34 0 11) + (gS G34 1 2)) < (gS G34 0 4) then some (.inl (G34, q19.2 + 1)) else Option.bind (if (60 : Int32) ≤ (gS G34 0 15) then some G34 else gck (gIn (gS G34 0 15) 60) (gLet (gS1 G34 7 (gS G34 0 15).toNatClampNeg q19.2) fun G57 => some G57)) fun q38 => gLet (gS1 q38 0 15 ((gS q38 0 15) + (1 : Int32))) fun G41 => (gloop (f_X11_counts_b175) gFu (G41, (0 : Int32))).bind fun q44 => some (.inl (q44, q19.2 + 1))
def f_X11_counts (G : gP) : Option (gP) :=
  (f_X11_finds G).bind fun q1 => gLet (gS1 q1 0 15 (0 : Int32)) fun G3 => gLet (gS1 G3 0 14 (9999 : Int32)) fun G5 => (gloop (f_X11_counts_b18) gFu (G5, (0 : Int32))).bind fun q8 => Option.bind (if (gS q8 0 10) = (-4 : Int32) then some (0 : Int32) else (f_X11_readings q8).bind fun q71 => some q71) fun q16 => (gloop (f_X11_counts_b58 q16) gFu (q8, (0 : Int32))).bind fun q20 => some q20
def f_X11_look_b25 (q1 : Int32 × Int32 × Int32) (G : gP) (q7 : Int32 × Int32) : Option ((Int32 × Int32) ⊕ (Int32)) :=
  if (32 : Int32) ≤ q7.2 then some (.inr q7.1) else gck (gIn (((32 : Int32) * q1.2.2) + q7.2) 256) (if (gS G 6 (((32 : Int32) * q1.2.2) + q7.2).toNatClampNeg) ≤ q7.1 then some (.inl (q7.1, q7.2 + 1)) else gck (gIn (((32 : Int32) * q1.2.2) + q7.2) 256) (gLet (gS G 6 (((32 : Int32) * q1.2.2) + q7.2).toNatClampNeg) fun x16 => some (.inl (x16, q7.2 + 1))))
def f_X11_look_b8 (G : gP) (q1 : Int32 × Int32 × Int32) : Option ((Int32 × Int32 × Int32) ⊕ (Int32)) :=
  if (gS G 1 0) ≤ q1.2.2 then some (.inr q1.1) else (gloop (f_X11_look_b25 q1 G) gFu ((0 : Int32), (0 : Int32))).bind fun q8 => gLet (if q1.2.1 ≤ q8 then q1.1 else q1.2.2) fun q18 => if q1.2.1 ≤ q8 then some (.inl (q18, q1.2.1, q1.2.2 + 1)) else some (.inl (q18, q8, q1.2.2 + 1))
def f_X11_look (G : gP) (a1 : Int32) : Option (Int32) :=
  (gloop (f_X11_look_b8 G) gFu ((-4 : Int32), a1, (0 : Int32))).bind fun q2 => some q2
def f_X11_tellsSame_b11  (q1 : gP × Int32) : Option ((gP × Int32) ⊕ (gP)) :=
  if (256 : Int32) ≤ q1.2 then some (.inr q1.1) else gck (gIn q1.2 256) (gLet (gS1 q1.1 6 q1.2.toNatClampNeg (0 : Int32)) fun G8 => some (.inl (G8, q1.2 + 1)))
def f_X11_tellsSame_b145 (q24 : gP × Int32) (q30 : Int32 × Int32) : Option ((Int32 × Int32) ⊕ (Int32)) :=
  if q24.2 ≤ q30.2 then some (.inr q30.1) else if q30.1 = 0 then some (.inr q30.1) else gck (gIn q30.2 8) (gck (gIn q30.2 8) (if (gS q24.1 4 q30.2.toNatClampNeg) = (gS q24.1 10 q30.2.toNatClampNeg) then some (.inl ((1 : Int32), q30.2 + 1)) else some (.inl ((0 : Int32), q30.2 + 1))))
def f_X11_tellsSame_b188  (q40 : gP × Int32) : Option ((gP × Int32) ⊕ (gP)) :=
  if (gS q40.1 1 0) ≤ q40.2 then some (.inr q40.1) else gck (gIn q40.2 8) (gck (gIn (((f_X11_at q40.2) + (1 : Int32)) + (gS q40.1 2 q40.2.toNatClampNeg)) 76) (gck (gIn (((32 : Int32) * q40.2) + (gS q40.1 1 (((f_X11_at q40.2) + (1 : Int32)) + (gS q40.1 2 q40.2.toNatClampNeg)).toNatClampNeg)) 256) (gck (gIn (((32 : Int32) * q40.2) + (gS q40.1 1 (((f_X11_at q40.2) + (1 : Int32)) + (gS q40.1 2 q40.2.toNatClampNeg)).toNatClampNeg)) 256) (gLet (gS1 q40.1 6 (((32 : Int32) * q40.2) + (gS q40.1 1 (((f_X11_at q40.2) + (1 : Int32)) + (gS q40.1 2 q40.2.toNatClampNeg)).toNatClampNeg)).toNatClampNeg ((gS q40.1 6 (((32 : Int32) * q40.2) + (gS q40.1 1 (((f_X11_at q40.2) + (1 : Int32)) + (gS q40.1 2 q40.2.toNatClampNeg)).toNatClampNeg)).toNatClampNeg) + (1 : Int32))) fun G50 => some (.inl (G50, q40.2 + 1))))))
def f_X11_tellsSame_b94  (q57 : gP × Int32) : Option ((gP × Int32) ⊕ (gP)) :=
  if (gS q57.1 0 6) ≤ q57.2 then some (.inr q57.1) else gck (gIn q57.2 8) (gck (gIn q57.2 8) (gLet (gS1 q57.1 10 q57.2.toNatClampNeg (gS q57.1 4 q57.2.toNatClampNeg)) fun G65 => some (.inl (G65, q57.2 + 1))))
def f_X11_tellsSame_b36 (a1 : Int64) (q10 : gP × Int32 × Int32 × Int32 × Int32) : Option ((gP × Int32 × Int32 × Int32 × Int32) ⊕ (gP × Int32 × Int32)) :=
  if (gS q10.1 0 15) ≤ q10.2.2.2.2 then some (.inr (q10.1, q10.2.1, q10.2.2.1)) else if ((gShrL a1 q10.2.2.2.2) &&& (1 : Int64)) = (1 : Int64) then gck (gIn q10.2.2.2.2 60) ((f_X11_takes q10.1 (gS q10.1 7 q10.2.2.2.2.toNatClampNeg)).bind fun q18 => gLet (if q18.2 = 0 then (0 : Int32) else if q10.2.1 = 0 then (0 : Int32) else (1 : Int32)) fun q21 => Option.bind (if q10.2.2.1 = 0 then gLet (gS q18.1 0 6) fun x55 => (gloop (f_X11_tellsSame_b94) gFu (q18.1, (0 : Int32))).bind fun q58 => some (q58, x55) else some (q18.1, q10.2.2.2.1)) fun q24 => gLet (if q21 = 0 then (0 : Int32) else if (gS q24.1 0 6) = q24.2 then (1 : Int32) else (0 : Int32)) fun q27 => (gloop (f_X11_tellsSame_b145 q24) gFu (q27, (0 : Int32))).bind fun q31 => (gloop (f_X11_tellsSame_b188) gFu (q24.1, (0 : Int32))).bind fun q41 => some (.inl (q41, q31, q10.2.2.1 + 1, q24.2, q10.2.2.2.2 + 1))) else some (.inl (q10.1, q10.2.1, q10.2.2.1, q10.2.2.2.1, q10.2.2.2.2 + 1))
def f_X11_tellsSame (G : gP) (a1 : Int64) : Option (gP × Int32) :=
  (gloop (f_X11_tellsSame_b11) gFu (G, (0 : Int32))).bind fun q2 => (gloop (f_X11_tellsSame_b36 a1) gFu (q2, (1 : Int32), (0 : Int32), (0 : Int32), (0 : Int32))).bind fun q11 => gLet (gS1 q11.1 0 21 q11.2.2) fun G69 => gck (gZ q11.2.1) (some (G69, q11.2.1))
def f_X11_partOf_b6 (a1 : Int64) (a3 : Int32) (a4 : Int32) (q1 : gP × Int64 × Int32) : Option ((gP × Int64 × Int32) ⊕ (gP × Int64)) :=
  if (gS q1.1 0 15) ≤ q1.2.2 then some (.inr (q1.1, q1.2.1)) else Option.bind (if ((gShrL a1 q1.2.2) &&& (1 : Int64)) = (1 : Int64) then gck (gIn q1.2.2 60) ((f_X11_takes q1.1 (gS q1.1 7 q1.2.2.toNatClampNeg)).bind fun q21 => if q21.2 = 0 then some (q21.1, (0 : Int32)) else some (q21.1, (1 : Int32))) else some (q1.1, (0 : Int32))) fun q7 => Option.bind (if q7.2 = 0 then some (0 : Int64) else gck (gIn a3 8) (gck (gIn (((f_X11_at a3) + (1 : Int32)) + (gS q7.1 2 a3.toNatClampNeg)) 76) (if (gS q7.1 1 (((f_X11_at a3) + (1 : Int32)) + (gS q7.1 2 a3.toNatClampNeg)).toNatClampNeg) = a4 then some (gShlL (1 : Int64) q1.2.2) else some (0 : Int64)))) fun q10 => gLet (q1.2.1 ||| q10) fun x13 => some (.inl (q7.1, x13, q1.2.2 + 1))
def f_X11_partOf (G : gP) (a1 : Int64) (a3 : Int32) (a4 : Int32) : Option (gP × Int64) :=
  (gloop (f_X11_partOf_b6 a1 a3 a4) gFu (G, (0 : Int64), (0 : Int32))).bind fun q2 => some (q2.1, q2.2)
def f_X11_questions_b113 (q24 : Int32) (x16 : Int64) (x19 : Int32) (q30 : gP × Int32 × Int32) : Option ((gP × Int32 × Int32) ⊕ (gP × Int32)) :=
  if q24 = (-4 : Int32) then some (.inr (q30.1, q30.2.1)) else gck (gIn (f_X11_at q24) 76) (if (gS q30.1 1 (f_X11_at q24).toNatClampNeg) ≤ q30.2.2 then some (.inr (q30.1, q30.2.1)) else gck (gIn (((f_X11_at q24) + (1 : Int32)) + q30.2.2) 76) ((f_X11_partOf q30.1 x16 q24 (gS q30.1 1 (((f_X11_at q24) + (1 : Int32)) + q30.2.2).toNatClampNeg)).bind fun q39 => if q39.2 = (0 : Int64) then some (.inl (q39.1, q30.2.1, q30.2.2 + 1)) else gck (gIn q30.2.1 128) (gLet (gL1 q39.1 8 q30.2.1.toNatClampNeg q39.2) fun G43 => gck (gIn q30.2.1 128) (gLet (gS1 G43 9 q30.2.1.toNatClampNeg (x19 + (1 : Int32))) fun G46 => some (.inl (G46, q30.2.1 + 1, q30.2.2 + 1))))))
def f_X11_questions_b48  (q9 : gP × Int32 × Int32) : Option ((gP × Int32 × Int32) ⊕ (gP × Int32)) :=
  if q9.2.2 ≤ 0 then some (.inr (q9.1, q9.2.1)) else gck (gIn (q9.2.2 + (-1)) 128) (gLet (gL q9.1 8 (q9.2.2 + (-1)).toNatClampNeg) fun x16 => gck (gIn (q9.2.2 + (-1)) 128) (gLet (gS q9.1 9 (q9.2.2 + (-1)).toNatClampNeg) fun x19 => (f_X11_tellsSame q9.1 x16).bind fun q21 => Option.bind (if q21.2 = 0 then (f_X11_look q21.1 (gS q21.1 0 21)).bind fun q50 => some q50 else some (-4 : Int32)) fun q24 => gLet (if x19 ≤ q9.2.1 then q9.2.1 else x19) fun q27 => (gloop (f_X11_questions_b113 q24 x16 x19) gFu (q21.1, q9.2.2 + (-1), (0 : Int32))).bind fun q31 => some (.inl (q31.1, q27, q31.2))))
def f_X11_questions (G : gP) : Option (gP × Int32) :=
  (f_X11_counts G).bind fun q1 => if (gS q1 0 15) = 0 then some (q1, (-4 : Int32)) else if (gS q1 0 15) ≤ (60 : Int32) then gLet (gL1 q1 8 0 ((gShlL (1 : Int64) (gS q1 0 15)) - (1 : Int64))) fun G5 => gLet (gS1 G5 9 0 (0 : Int32)) fun G7 => (gloop (f_X11_questions_b48) gFu (G7, (0 : Int32), (1 : Int32))).bind fun q10 => some (q10.1, q10.2) else some (q1, (-4 : Int32))
def f_X11_spoilt_b32 (q4 : gP × Int32 × Int32) (q10 : gP × Int32 × Int32) : Option ((gP × Int32 × Int32) ⊕ (gP × Int32)) :=
  gck (gIn (f_X11_at q4.2.2) 76) (if (gS q10.1 1 (f_X11_at q4.2.2).toNatClampNeg) ≤ q10.2.2 then some (.inr (q10.1, q10.2.1)) else (f_X11_takes q10.1 (gS q10.1 0 10)).bind fun q17 => gck (gIn q4.2.2 8) (gLet (if (gS q17.1 2 q4.2.2.toNatClampNeg) = q10.2.2 then (0 : Int32) else (1 : Int32)) fun q21 => gck (gIn q4.2.2 8) (gLet (gS1 q17.1 2 q4.2.2.toNatClampNeg q10.2.2) fun G25 => Option.bind (if q17.2 = 0 then some (G25, (0 : Int32)) else if q21 = 0 then some (G25, (0 : Int32)) else (f_X11_takesPicked G25).bind fun q34 => if q34.2 = 0 then some (q34.1, (0 : Int32)) else (f_X11_holds q34.1).bind fun q38 => if q38 = 0 then some (q34.1, (1 : Int32)) else some (q34.1, (0 : Int32))) fun q27 => gLet (q10.2.1 + q27.2) fun x30 => some (.inl (q27.1, x30, q10.2.2 + 1)))))
def f_X11_spoilt_b20  (q4 : gP × Int32 × Int32) : Option ((gP × Int32 × Int32) ⊕ (gP × Int32)) :=
  if (gS q4.1 1 0) ≤ q4.2.2 then some (.inr (q4.1, q4.2.1)) else (gloop (f_X11_spoilt_b32 q4) gFu (q4.1, q4.2.1, (0 : Int32))).bind fun q11 => some (.inl (q11.1, q11.2, q4.2.2 + 1))
def f_X11_spoilt (G : gP) : Option (gP × Int32) :=
  (f_X11_finds G).bind fun q1 => if (gS q1 0 10) = (-4 : Int32) then some (q1, (-4 : Int32)) else (gloop (f_X11_spoilt_b20) gFu (q1, (0 : Int32), (0 : Int32))).bind fun q5 => some (q5.1, q5.2)
def f_X11_count (G : gP) (a1 : Int32) : Option (gP × Int32) :=
  if a1 = 0 then some (G, gS G 1 0) else if a1 = 1 then some (G, gS G 1 1) else if a1 = 2 then some (G, gS G 1 2) else if a1 = 3 then (f_X11_finds G).bind fun q5 => some (q5, gS q5 0 8) else if a1 = 4 then (f_X11_finds G).bind fun q8 => some (q8, gS q8 0 9) else if a1 = 5 then (f_X11_counts G).bind fun q11 => some (q11, gS q11 0 15) else if a1 = 6 then (f_X11_counts G).bind fun q14 => (f_X11_look q14 (gS q14 0 15)).bind fun q16 => some (q14, q16) else if a1 = 7 then (f_X11_questions G).bind fun q19 => some (q19.1, q19.2) else if a1 = 8 then (f_X11_counts G).bind fun q22 => if (gS q22 0 14) = (9999 : Int32) then some (q22, (-4 : Int32)) else some (q22, gS q22 0 14) else if a1 = 9 then (f_X11_spoilt G).bind fun q26 => some (q26.1, q26.2) else if a1 = 10 then some (G, gS G 0 29) else some (G, (-1 : Int32))
def f_X11_type (G : gP) (a1 : Int32) : Option (gP × Int32) :=
  if (f_X11_in a1.toInt64 (32 : Int64) (126 : Int64)) = 0 then some (G, (-1 : Int32)) else if (gS G 0 23) = (120 : Int32) then some (G, (-3 : Int32)) else gck (gIn (gS G 0 23) 120) (gLet (gS1 G 11 (gS G 0 23).toNatClampNeg a1) fun G5 => gLet (gS1 G5 0 23 ((gS G5 0 23) + (1 : Int32))) fun G7 => some (G7, gS G7 0 23))
def f_X11_here_b0  (q1 : gP) : Option ((gP) ⊕ (gP)) :=
  if (gS q1 0 23) ≤ (gS q1 0 24) then some (.inr q1) else gck (gIn (gS q1 0 24) 120) (if (gS q1 11 (gS q1 0 24).toNatClampNeg) = (32 : Int32) then gLet (gS1 q1 0 24 ((gS q1 0 24) + (1 : Int32))) fun G9 => some (.inl G9) else some (.inr q1))
def f_X11_here (G : gP) : Option (gP × Int32) :=
  (gloop (f_X11_here_b0) gFu G).bind fun q2 => if (gS q2 0 23) ≤ (gS q2 0 24) then some (q2, (0 : Int32)) else gck (gIn (gS q2 0 24) 120) (some (q2, gS q2 11 (gS q2 0 24).toNatClampNeg))
def f_X11_letterWord (a0 : Int32) : Int32 :=
  if a0 = (104 : Int32) then (28 : Int32) else if a0 = (116 : Int32) then (29 : Int32) else if a0 = (97 : Int32) then (30 : Int32) else if a0 = (115 : Int32) then (31 : Int32) else if a0 = (110 : Int32) then (0 : Int32) else (-4 : Int32)
def f_X11_wordRead (G : gP) : Option (gP × Int32) :=
  (f_X11_here G).bind fun q1 => if (f_X11_in q1.2.toInt64 (48 : Int64) (57 : Int64)) = 0 then (f_X11_here q1.1).bind fun q36 => gLet (f_X11_letterWord q36.2) fun x38 => gLet (if x38 = (-4 : Int32) then (0 : Int32) else (1 : Int32)) fun q40 => gLet (gS1 q36.1 0 24 ((gS q36.1 0 24) + q40)) fun G43 => some (G43, x38) else gLet (gS q1.1 0 24) fun x5 => gck (gIn (gS q1.1 0 24) 120) (gLet ((gS q1.1 11 (gS q1.1 0 24).toNatClampNeg) - (48 : Int32)) fun x8 => gLet (gS1 q1.1 0 24 ((gS q1.1 0 24) + (1 : Int32))) fun G10 => Option.bind (if (gS G10 0 23) ≤ (gS G10 0 24) then some (G10, x8) else gck (gIn (gS G10 0 24) 120) (if (f_X11_in ((gS G10 11 (gS G10 0 24).toNatClampNeg).toInt64) (48 : Int64) (57 : Int64)) = 0 then some (G10, x8) else gck (gIn (gS G10 0 24) 120) (gLet ((((10 : Int32) * x8) + (gS G10 11 (gS G10 0 24).toNatClampNeg)) - (48 : Int32)) fun x32 => gLet (gS1 G10 0 24 ((gS G10 0 24) + (1 : Int32))) fun G34 => some (G34, x32)))) fun q12 => gLet (if (f_X11_in q12.2.toInt64 (1 : Int64) (19 : Int64)) = 0 then if q12.2 ≤ (19 : Int32) then (-4 : Int32) else if (gRem q12.2 (10 : Int32)) = 0 then (18 : Int32) + (q12.2 / (10 : Int32)) else (-4 : Int32) else q12.2) fun q16 => if q16 = (-4 : Int32) then gLet (gS1 q12.1 0 24 x5) fun G22 => some (G22, q16) else gLet (gS1 q12.1 0 24 (gS q12.1 0 24)) fun G20 => some (G20, q16))
def f_X11_has (G : gP) (a1 : Int32) : Option (gP × Int32) :=
  (f_X11_here G).bind fun q1 => if q1.2 = a1 then gLet (gS1 q1.1 0 24 ((gS q1.1 0 24) + (1 : Int32))) fun G4 => some (G4, (1 : Int32)) else some (q1.1, (0 : Int32))
def f_X11_reads_b62 (x1 : Int32) (q20 : gP × Int32) (q22 : Int32 × Int32) : Option ((Int32 × Int32) ⊕ (Int32)) :=
  gck (gIn x1 72) (if (gS q20.1 12 x1.toNatClampNeg) ≤ q22.2 then some (.inr q22.1) else if q22.1 = 0 then gck (gIn ((x1 + (1 : Int32)) + q22.2) 72) (if (gS q20.1 12 ((x1 + (1 : Int32)) + q22.2).toNatClampNeg) = q20.2 then some (.inl ((1 : Int32), q22.2 + 1)) else some (.inl ((0 : Int32), q22.2 + 1))) else some (.inl ((1 : Int32), q22.2 + 1)))
def f_X11_reads_b14 (x1 : Int32) (q6 : gP × Int32) : Option ((gP × Int32) ⊕ ((gP) ⊕ (gP × Int32))) :=
  if q6.2 = 0 then some (.inr (.inl q6.1)) else (f_X11_here q6.1).bind fun q12 => gLet (if q12.2 = 0 then (1 : Int32) else (0 : Int32)) fun q14 => gLet (if q14 = 0 then gS q12.1 0 24 else gS q12.1 0 23) fun q17 => (f_X11_wordRead q12.1).bind fun q20 => (gloop (f_X11_reads_b62 x1 q20) gFu ((0 : Int32), (0 : Int32))).bind fun q23 => if q20.2 = (-4 : Int32) then gLet (gS1 q20.1 0 24 q17) fun G33 => some (.inr (.inr (G33, (0 : Int32)))) else if q23 = 0 then gck (gIn x1 72) (gLet (gS q20.1 12 x1.toNatClampNeg) fun x37 => gck (gIn ((x1 + (1 : Int32)) + x37) 72) (gLet (gS1 q20.1 12 ((x1 + (1 : Int32)) + x37).toNatClampNeg q20.2) fun G40 => gck (gIn ((x1 + (5 : Int32)) + x37) 72) (gLet (gS1 G40 12 ((x1 + (5 : Int32)) + x37).toNatClampNeg (0 : Int32)) fun G43 => (f_X11_has G43 (58 : Int32)).bind fun q45 => if q45.2 = 0 then gck (gIn x1 72) (gck (gIn x1 72) (gLet (gS1 q45.1 12 x1.toNatClampNeg ((gS q45.1 12 x1.toNatClampNeg) + (1 : Int32))) fun G51 => gck (gIn x1 72) (if (4 : Int32) ≤ (gS G51 12 x1.toNatClampNeg) then some (.inl (G51, (0 : Int32))) else (f_X11_has G51 (44 : Int32)).bind fun q55 => if q55.2 = 0 then some (.inl (q55.1, (0 : Int32))) else some (.inl (q55.1, (1 : Int32)))))) else (f_X11_here q45.1).bind fun q59 => if (f_X11_in q59.2.toInt64 (48 : Int64) (57 : Int64)) = 0 then some (.inr (.inr (q59.1, (0 : Int32)))) else (f_X11_here q59.1).bind fun q63 => gck (gIn ((x1 + (5 : Int32)) + x37) 72) (gLet (gS1 q63.1 12 ((x1 + (5 : Int32)) + x37).toNatClampNeg (q63.2 - (48 : Int32))) fun G66 => gLet (gS1 G66 0 24 ((gS G66 0 24) + (1 : Int32))) fun G68 => gck (gIn x1 72) (gck (gIn x1 72) (gLet (gS1 G68 12 x1.toNatClampNeg ((gS G68 12 x1.toNatClampNeg) + (1 : Int32))) fun G72 => gck (gIn x1 72) (if (4 : Int32) ≤ (gS G72 12 x1.toNatClampNeg) then some (.inl (G72, (0 : Int32))) else (f_X11_has G72 (44 : Int32)).bind fun q76 => if q76.2 = 0 then some (.inl (q76.1, (0 : Int32))) else some (.inl (q76.1, (1 : Int32)))))))))) else gLet (gS1 q20.1 0 24 q17) fun G80 => some (.inr (.inr (G80, (0 : Int32))))
def f_X11_reads (G : gP) (a1 : Int32) : Option (gP × Int32) :=
  gLet ((9 : Int32) * a1) fun x1 => gck (gIn x1 72) (gLet (gS1 G 12 x1.toNatClampNeg (0 : Int32)) fun G4 => (gloop (f_X11_reads_b14 x1) gFu (G4, (1 : Int32))).bind fun q7 => gsum q7 (fun zq7 => some (zq7, (1 : Int32))) (fun r => some r))
def f_X11_fault (G : gP) : Option (gP × Int32) :=
  (f_X11_here G).bind fun q1 => gLet (if q1.2 = 0 then (1 : Int32) else (0 : Int32)) fun q3 => gLet (if q3 = 0 then gS q1.1 0 24 else gS q1.1 0 23) fun q6 => gLet ((-20 : Int32) - q6) fun x9 => gLet (gS1 q1.1 0 23 (0 : Int32)) fun G11 => some (G11, x9)
def f_X11_clears_b9  (q3 : gP × Int32) : Option ((gP × Int32) ⊕ (gP)) :=
  if (76 : Int32) ≤ q3.2 then some (.inr q3.1) else gck (gIn q3.2 76) (gLet (gS1 q3.1 1 q3.2.toNatClampNeg (0 : Int32)) fun G10 => some (.inl (G10, q3.2 + 1)))
def f_X11_clears (G : gP) : Option (gP) :=
  gLet (gS1 G 1 0 (0 : Int32)) fun G1 => (gloop (f_X11_clears_b9) gFu (G1, (4 : Int32))).bind fun q4 => some q4
def f_X11_words_b20  (q8 : gP × Int32 × Int32) : Option ((gP × Int32 × Int32) ⊕ ((gP × Int32) ⊕ (gP × Int32))) :=
  if q8.2.2 = 0 then some (.inr (.inl (q8.1, q8.2.1))) else (f_X11_reads q8.1 q8.2.1).bind fun q14 => if q14.2 = 0 then (f_X11_fault q14.1).bind fun q23 => some (.inr (.inr (q23.1, q23.2))) else if (8 : Int32) ≤ (q8.2.1 + 1) then some (.inl (q14.1, q8.2.1 + 1, (0 : Int32))) else (f_X11_has q14.1 (59 : Int32)).bind fun q19 => if q19.2 = 0 then some (.inl (q19.1, q8.2.1 + 1, (0 : Int32))) else some (.inl (q19.1, q8.2.1 + 1, (1 : Int32)))
def f_X11_words_b89 (zq9 : gP × Int32) (q32 : gP × Int32) : Option ((gP × Int32) ⊕ (gP)) :=
  if ((9 : Int32) * zq9.2) ≤ q32.2 then some (.inr q32.1) else gck (gIn q32.2 72) (gck (gIn ((4 : Int32) + q32.2) 76) (gLet (gS1 q32.1 1 ((4 : Int32) + q32.2).toNatClampNeg (gS q32.1 12 q32.2.toNatClampNeg)) fun G40 => some (.inl (G40, q32.2 + 1))))
def f_X11_words_b136 (q42 : gP × Int32) (q51 : gP × Int32) : Option ((gP × Int32) ⊕ (gP)) :=
  if (4 : Int32) ≤ q51.2 then some (.inr q51.1) else gck (gIn (((f_X11_at q42.2) + (1 : Int32)) + q51.2) 76) (gLet (gS1 q51.1 1 (((f_X11_at q42.2) + (1 : Int32)) + q51.2).toNatClampNeg (0 : Int32)) fun G58 => gck (gIn (((f_X11_at q42.2) + (5 : Int32)) + q51.2) 76) (gLet (gS1 G58 1 (((f_X11_at q42.2) + (5 : Int32)) + q51.2).toNatClampNeg (0 : Int32)) fun G61 => some (.inl (G61, q51.2 + 1))))
def f_X11_words_b119 (zq9 : gP × Int32) (q42 : gP × Int32) : Option ((gP × Int32) ⊕ (gP)) :=
  if zq9.2 ≤ q42.2 then some (.inr q42.1) else gck (gIn (f_X11_at q42.2) 76) (gLet (gS q42.1 1 (f_X11_at q42.2).toNatClampNeg) fun x49 => (gloop (f_X11_words_b136 q42) gFu (q42.1, x49)).bind fun q52 => some (.inl (q52, q42.2 + 1)))
def f_X11_words (G : gP) : Option (gP × Int32) :=
  gLet (gS1 G 0 24 (0 : Int32)) fun G1 => (f_X11_here G1).bind fun q3 => gLet (if q3.2 = 0 then (0 : Int32) else (1 : Int32)) fun q5 => (gloop (f_X11_words_b20) gFu (q3.1, (0 : Int32), q5)).bind fun q9 => gsum q9 (fun zq9 => (f_X11_here zq9.1).bind fun q25 => if q25.2 = 0 then (f_X11_clears q25.1).bind fun q28 => gLet (gS1 q28 1 0 zq9.2) fun G30 => (gloop (f_X11_words_b89 zq9) gFu (G30, (0 : Int32))).bind fun q33 => (gloop (f_X11_words_b119 zq9) gFu (q33, (0 : Int32))).bind fun q43 => gLet (gS1 q43 0 29 (0 : Int32)) fun G63 => gLet (gS1 G63 0 23 (0 : Int32)) fun G65 => some (G65, zq9.2) else (f_X11_fault q25.1).bind fun q67 => some (q67.1, q67.2)) (fun r => some r)
def f_X11_says (G : gP) (a1 : Int32) : Option (gP) :=
  gck (gIn (gS G 0 27) 10) (gLet (gS1 G 13 (gS G 0 27).toNatClampNeg a1) fun G2 => gLet (gS1 G2 0 27 ((gS G2 0 27) + (1 : Int32))) fun G4 => some G4)
def f_X11_saysSmall (G : gP) (a1 : Int32) : Option (gP) :=
  Option.bind (if a1 < (100 : Int32) then some G else (f_X11_says G (a1 / (100 : Int32))).bind fun q20 => (f_X11_says q20 (28 : Int32)).bind fun q22 => some q22) fun q1 => gLet (gRem a1 (100 : Int32)) fun x4 => Option.bind (if x4 ≤ (19 : Int32) then some q1 else (f_X11_says q1 ((18 : Int32) + (x4 / (10 : Int32)))).bind fun q17 => some q17) fun q6 => gLet (if x4 ≤ (19 : Int32) then x4 else gRem x4 (10 : Int32)) fun q9 => if q9 ≤ 0 then some q6 else (f_X11_says q6 q9).bind fun q13 => some q13
def f_X11_hears (G : gP) (a1 : Int32) (a2 : Int32) : Option (gP) :=
  gLet (gS G 1 0) fun x1 => gLet (gS1 G 1 0 ((gS G 1 0) + (1 : Int32))) fun G3 => gck (gIn (f_X11_at x1) 76) (gLet (gS1 G3 1 (f_X11_at x1).toNatClampNeg (1 : Int32)) fun G6 => gck (gIn ((f_X11_at x1) + (1 : Int32)) 76) (gLet (gS1 G6 1 ((f_X11_at x1) + (1 : Int32)).toNatClampNeg a1) fun G9 => gck (gIn ((f_X11_at x1) + (5 : Int32)) 76) (gLet (gS1 G9 1 ((f_X11_at x1) + (5 : Int32)).toNatClampNeg a2) fun G12 => some G12)))
def f_X11_say_b68  (q13 : gP × Int32) : Option ((gP × Int32) ⊕ (gP)) :=
  if (gS q13.1 0 27) ≤ q13.2 then some (.inr q13.1) else gck (gIn q13.2 10) ((f_X11_hears q13.1 (gS q13.1 13 q13.2.toNatClampNeg) (0 : Int32)).bind fun q20 => some (.inl (q20, q13.2 + 1)))
def f_X11_say (G : gP) (a1 : Int32) : Option (gP × Int32) :=
  if (f_X11_in a1.toInt64 (1 : Int64) (999999 : Int64)) = 0 then some (G, (-1 : Int32)) else gLet (gS1 G 0 27 (0 : Int32)) fun G3 => Option.bind (if a1 < (1000 : Int32) then some G3 else (f_X11_saysSmall G3 (a1 / (1000 : Int32))).bind fun q25 => (f_X11_says q25 (29 : Int32)).bind fun q27 => some q27) fun q5 => (f_X11_saysSmall q5 (gRem a1 (1000 : Int32))).bind fun q8 => if (gS q8 0 27) ≤ (8 : Int32) then (f_X11_clears q8).bind fun q11 => (gloop (f_X11_say_b68) gFu (q11, (0 : Int32))).bind fun q14 => gLet (gS1 q14 0 29 (0 : Int32)) fun G22 => some (G22, gS G22 0 27) else some (q8, (-3 : Int32))
def f_X11_isWord (a0 : Int32) : Int32 :=
  f_X11_in a0.toInt64 (0 : Int64) (31 : Int64)
def f_X11_notes_b48  (q4 : gP × Int32) : Option ((gP × Int32) ⊕ (gP)) :=
  if (76 : Int32) ≤ q4.2 then some (.inr q4.1) else gck (gIn q4.2 76) (gck (gIn (((76 : Int32) * (gS q4.1 0 29)) + q4.2) 608) (gLet (gS1 q4.1 14 (((76 : Int32) * (gS q4.1 0 29)) + q4.2).toNatClampNeg (gS q4.1 1 q4.2.toNatClampNeg)) fun G12 => some (.inl (G12, q4.2 + 1))))
def f_X11_notes_b12  (q17 : gP × Int32) : Option ((gP × Int32) ⊕ (gP)) :=
  if (608 : Int32) ≤ q17.2 then some (.inr q17.1) else gck (gIn q17.2 608) (gck (gIn (q17.2 - (76 : Int32)) 608) (gLet (gS1 q17.1 14 (q17.2 - (76 : Int32)).toNatClampNeg (gS q17.1 14 q17.2.toNatClampNeg)) fun G25 => some (.inl (G25, q17.2 + 1))))
def f_X11_notes (G : gP) : Option (gP) :=
  Option.bind (if (gS G 0 29) = (8 : Int32) then (gloop (f_X11_notes_b12) gFu (G, (76 : Int32))).bind fun q18 => gLet (gS1 q18 0 29 (7 : Int32)) fun G27 => some G27 else some G) fun q1 => (gloop (f_X11_notes_b48) gFu (q1, (0 : Int32))).bind fun q5 => gLet (gS1 q5 0 29 ((gS q5 0 29) + (1 : Int32))) fun G14 => some G14
def f_X11_hear (G : gP) (a1 : Int32) (a2 : Int32) : Option (gP × Int32) :=
  if (f_X11_isWord a1) = 0 then some (G, (-1 : Int32)) else if (f_X11_in a2.toInt64 (0 : Int64) (9 : Int64)) = 0 then some (G, (-1 : Int32)) else if (gS G 1 0) = (8 : Int32) then some (G, (-3 : Int32)) else (f_X11_notes G).bind fun q6 => (f_X11_hears q6 a1 a2).bind fun q8 => some (q8, gS q8 1 0)
def f_X11_placeOf_b6 (a1 : Int32) (G : gP) (a2 : Int32) (q1 : Int32 × Int32) : Option ((Int32 × Int32) ⊕ (Int32)) :=
  gck (gIn (f_X11_at a1) 76) (if (gS G 1 (f_X11_at a1).toNatClampNeg) ≤ q1.2 then some (.inr q1.1) else gck (gIn (((f_X11_at a1) + (1 : Int32)) + q1.2) 76) (if (gS G 1 (((f_X11_at a1) + (1 : Int32)) + q1.2).toNatClampNeg) = a2 then some (.inl (q1.2, q1.2 + 1)) else some (.inl (q1.1, q1.2 + 1))))
def f_X11_placeOf (G : gP) (a1 : Int32) (a2 : Int32) : Option (Int32) :=
  (gloop (f_X11_placeOf_b6 a1 G a2) gFu ((-4 : Int32), (0 : Int32))).bind fun q2 => some q2
def f_X11_comes (G : gP) (a1 : Int32) (a2 : Int32) (a3 : Int32) : Option (gP) :=
  gck (gIn (f_X11_at a1) 76) (gLet (gS G 1 (f_X11_at a1).toNatClampNeg) fun x2 => gck (gIn (((f_X11_at a1) + (1 : Int32)) + x2) 76) (gLet (gS1 G 1 (((f_X11_at a1) + (1 : Int32)) + x2).toNatClampNeg a2) fun G5 => gck (gIn (((f_X11_at a1) + (5 : Int32)) + x2) 76) (gLet (gS1 G5 1 (((f_X11_at a1) + (5 : Int32)) + x2).toNatClampNeg a3) fun G8 => gck (gIn (f_X11_at a1) 76) (gck (gIn (f_X11_at a1) 76) (gLet (gS1 G8 1 (f_X11_at a1).toNatClampNeg ((gS G8 1 (f_X11_at a1).toNatClampNeg) + (1 : Int32))) fun G12 => some G12)))))
def f_X11_also (G : gP) (a1 : Int32) (a2 : Int32) (a3 : Int32) : Option (gP × Int32) :=
  if (f_X11_isSlot G a1) = 0 then some (G, (-1 : Int32)) else if (f_X11_isWord a2) = 0 then some (G, (-1 : Int32)) else if (f_X11_in a3.toInt64 (0 : Int64) (9 : Int64)) = 0 then some (G, (-1 : Int32)) else (f_X11_placeOf G a1 a2).bind fun q7 => if q7 = (-4 : Int32) then gck (gIn (f_X11_at a1) 76) (if (gS G 1 (f_X11_at a1).toNatClampNeg) = (4 : Int32) then some (G, (-3 : Int32)) else (f_X11_notes G).bind fun q12 => (f_X11_comes q12 a1 a2 a3).bind fun q14 => gck (gIn (f_X11_at a1) 76) (some (q14, gS q14 1 (f_X11_at a1).toNatClampNeg))) else some (G, (-2 : Int32))
def f_X11_lose_b30  (q9 : gP × Int32) : Option ((gP × Int32) ⊕ (gP)) :=
  if (f_X11_at (gS q9.1 1 0)) ≤ q9.2 then some (.inr q9.1) else gck (gIn (q9.2 + (9 : Int32)) 76) (gck (gIn q9.2 76) (gLet (gS1 q9.1 1 q9.2.toNatClampNeg (gS q9.1 1 (q9.2 + (9 : Int32)).toNatClampNeg)) fun G17 => some (.inl (G17, q9.2 + 1))))
def f_X11_lose_b67  (q19 : gP × Int32) : Option ((gP × Int32) ⊕ (gP)) :=
  if (9 : Int32) ≤ q19.2 then some (.inr q19.1) else gck (gIn ((f_X11_at (gS q19.1 1 0)) + q19.2) 76) (gLet (gS1 q19.1 1 ((f_X11_at (gS q19.1 1 0)) + q19.2).toNatClampNeg (0 : Int32)) fun G26 => some (.inl (G26, q19.2 + 1)))
def f_X11_lose (G : gP) (a1 : Int32) : Option (gP × Int32) :=
  if (f_X11_isSlot G a1) = 0 then some (G, (-1 : Int32)) else (f_X11_notes G).bind fun q3 => gLet (gS1 q3 1 0 ((gS q3 1 0) - (1 : Int32))) fun G5 => gLet (f_X11_at a1) fun x7 => (gloop (f_X11_lose_b30) gFu (G5, x7)).bind fun q10 => (gloop (f_X11_lose_b67) gFu (q10, (0 : Int32))).bind fun q20 => some (q20, gS q20 1 0)
def f_X11_settle_b74 (a1 : Int32) (q17 : gP × Int32) : Option ((gP × Int32) ⊕ (gP)) :=
  if (9 : Int32) ≤ q17.2 then some (.inr q17.1) else gck (gIn ((f_X11_at a1) + q17.2) 76) (gLet (gS1 q17.1 1 ((f_X11_at a1) + q17.2).toNatClampNeg (0 : Int32)) fun G24 => some (.inl (G24, q17.2 + 1)))
def f_X11_settle (G : gP) (a1 : Int32) (a2 : Int32) : Option (gP × Int32) :=
  if (f_X11_isSlot G a1) = 0 then some (G, (-1 : Int32)) else if (f_X11_isWord a2) = 0 then some (G, (-1 : Int32)) else (f_X11_placeOf G a1 a2).bind fun q5 => gck (gIn (f_X11_at a1) 76) (gLet (gS G 1 (f_X11_at a1).toNatClampNeg) fun x8 => if q5 = (-4 : Int32) then some (G, (-2 : Int32)) else if x8 = (1 : Int32) then some (G, (-2 : Int32)) else (f_X11_notes G).bind fun q12 => gck (gIn (((f_X11_at a1) + (5 : Int32)) + q5) 76) (gLet (gS q12 1 (((f_X11_at a1) + (5 : Int32)) + q5).toNatClampNeg) fun x15 => (gloop (f_X11_settle_b74 a1) gFu (q12, (0 : Int32))).bind fun q18 => (f_X11_comes q18 a1 a2 x15).bind fun q26 => some (q26, x8 - (1 : Int32))))
def f_X11_check (G : gP) (a1 : Int32) : Option (gP × Int32) :=
  if (f_X11_in a1.toInt64 (0 : Int64) (4 : Int64)) = 0 then some (G, (-1 : Int32)) else gLet (gS G 1 1) fun x3 => if x3 = a1 then some (G, (-2 : Int32)) else (f_X11_notes G).bind fun q6 => gLet (gS1 q6 1 1 a1) fun G8 => some (G8, x3)
def f_X11_slack (G : gP) (a1 : Int32) : Option (gP × Int32) :=
  if (f_X11_in a1.toInt64 (0 : Int64) (20 : Int64)) = 0 then some (G, (-1 : Int32)) else gLet (gS G 1 2) fun x3 => if x3 = a1 then some (G, (-2 : Int32)) else (f_X11_notes G).bind fun q6 => gLet (gS1 q6 1 2 a1) fun G8 => some (G8, x3)
def f_X11_storm_b16 (a1 : Int32) (q3 : gP × Int32) : Option ((gP × Int32) ⊕ (gP)) :=
  if a1 ≤ q3.2 then some (.inr q3.1) else (f_X11_notes q3.1).bind fun q9 => gLet (gRemL ((((gS q9 1 3).toInt64) * (1103515245 : Int64)) + (12345 : Int64)) (2147483648 : Int64)) fun x11 => gLet (gS1 q9 1 3 x11.toInt32) fun G13 => gLet ((gS G13 1 3) / (65536 : Int32)) fun x15 => if (gS G13 1 0) ≤ 0 then some (.inl (G13, q3.2 + 1)) else gck (gNz (gS G13 1 0)) (gLet (gRem x15 (gS G13 1 0)) fun x19 => gck (gIn (f_X11_at x19) 76) (if (4 : Int32) ≤ (gS G13 1 (f_X11_at x19).toNatClampNeg) then some (.inl (G13, q3.2 + 1)) else (f_X11_placeOf G13 x19 (gRem (x15 / (8 : Int32)) (32 : Int32))).bind fun q23 => if q23 = (-4 : Int32) then (f_X11_comes G13 x19 (gRem (x15 / (8 : Int32)) (32 : Int32)) (gRem (x15 / (256 : Int32)) (10 : Int32))).bind fun q26 => some (.inl (q26, q3.2 + 1)) else some (.inl (G13, q3.2 + 1))))
def f_X11_storm_b152 (q4 : gP) (q28 : Int32 × Int32) : Option ((Int32 × Int32) ⊕ (Int32)) :=
  if (gS q4 1 0) ≤ q28.2 then some (.inr q28.1) else gck (gIn (f_X11_at q28.2) 76) (gLet (q28.1 + (gS q4 1 (f_X11_at q28.2).toNatClampNeg)) fun x35 => some (.inl (x35, q28.2 + 1)))
def f_X11_storm (G : gP) (a1 : Int32) : Option (gP × Int32) :=
  if (f_X11_in a1.toInt64 (1 : Int64) (40 : Int64)) = 0 then some (G, (-1 : Int32)) else (gloop (f_X11_storm_b16 a1) gFu (G, (0 : Int32))).bind fun q4 => (gloop (f_X11_storm_b152 q4) gFu ((0 : Int32), (0 : Int32))).bind fun q29 => some (q4, q29)
def f_X11_undo_b22  (q4 : gP × Int32) : Option ((gP × Int32) ⊕ (gP)) :=
  if (76 : Int32) ≤ q4.2 then some (.inr q4.1) else gck (gIn (((76 : Int32) * (gS q4.1 0 29)) + q4.2) 608) (gck (gIn q4.2 76) (gLet (gS1 q4.1 1 q4.2.toNatClampNeg (gS q4.1 14 (((76 : Int32) * (gS q4.1 0 29)) + q4.2).toNatClampNeg)) fun G12 => some (.inl (G12, q4.2 + 1))))
def f_X11_undo (G : gP) : Option (gP × Int32) :=
  if (gS G 0 29) = 0 then some (G, (-4 : Int32)) else gLet (gS1 G 0 29 ((gS G 0 29) - (1 : Int32))) fun G2 => (gloop (f_X11_undo_b22) gFu (G2, (0 : Int32))).bind fun q5 => some (q5, gS q5 0 29)
def f_X11_seed (G : gP) (a1 : Int32) : Option (gP × Int32) :=
  if 0 ≤ a1 then gLet (gS G 1 3) fun x2 => gLet (gS1 G 1 3 a1) fun G4 => some (G4, x2) else some (G, (-1 : Int32))
def f_X11_best (G : gP) (a1 : Int32) : Option (gP × Int32) :=
  if (-2 : Int32) ≤ a1 then (f_X11_finds G).bind fun q2 => if (gS q2 0 10) = (-4 : Int32) then some (q2, (-4 : Int32)) else if a1 = (-1 : Int32) then some (q2, gS q2 0 11) else if a1 = (-2 : Int32) then some (q2, gS q2 0 13) else if (gS q2 0 13) ≤ a1 then some (q2, (-4 : Int32)) else gck (gIn a1 8) (some (q2, gS q2 5 a1.toNatClampNeg)) else some (G, (-1 : Int32))
def f_X11_taken (G : gP) (a1 : Int32) : Option (gP × Int32) :=
  if (f_X11_isSlot G a1) = 0 then some (G, (-1 : Int32)) else (f_X11_finds G).bind fun q3 => if (gS q3 0 10) = (-4 : Int32) then some (q3, (-4 : Int32)) else (f_X11_takes q3 (gS q3 0 10)).bind fun q6 => if q6.2 = 0 then some (q6.1, (-4 : Int32)) else gck (gIn a1 8) (gck (gIn (((f_X11_at a1) + (1 : Int32)) + (gS q6.1 2 a1.toNatClampNeg)) 76) (some (q6.1, gS q6.1 1 (((f_X11_at a1) + (1 : Int32)) + (gS q6.1 2 a1.toNatClampNeg)).toNatClampNeg)))
def f_X11_open_b21 (a1 : Int32) (q3 : gP) (q5 : Int64 × Int32) : Option ((Int64 × Int32) ⊕ (Int64)) :=
  if (32 : Int32) ≤ q5.2 then some (.inr q5.1) else gck (gIn (((32 : Int32) * a1) + q5.2) 256) (gLet (if (gS q3 6 (((32 : Int32) * a1) + q5.2).toNatClampNeg) ≤ 0 then (0 : Int64) else gShlL (1 : Int64) q5.2) fun q12 => gLet (q5.1 ||| q12) fun x15 => some (.inl (x15, q5.2 + 1)))
def f_X11_open (G : gP) (a1 : Int32) : Option (gP × Int64) :=
  if (f_X11_isSlot G a1) = 0 then some (G, (-1 : Int64)) else (f_X11_counts G).bind fun q3 => (gloop (f_X11_open_b21 a1 q3) gFu ((0 : Int64), (0 : Int32))).bind fun q6 => some (q3, q6)
def f_X11_isCounted (G : gP) (a1 : Int32) : Option (gP × Int32) :=
  (f_X11_takes G a1).bind fun q1 => if q1.2 = 0 then some (q1.1, (0 : Int32)) else (f_X11_holds q1.1).bind fun q5 => if q5 = 0 then some (q1.1, (0 : Int32)) else if ((gS q1.1 0 11) + (gS q1.1 1 2)) < (gS q1.1 0 4) then some (q1.1, (0 : Int32)) else some (q1.1, (1 : Int32))
def f_X11_counted_b44 (q6 : Int32) (a1 : Int32) (a2 : Int32) (q9 : gP × Int32 × Int32) : Option ((gP × Int32 × Int32) ⊕ ((gP) ⊕ (gP × Int32))) :=
  if q6 ≤ q9.2.2 then some (.inr (.inl q9.1)) else (f_X11_isCounted q9.1 q9.2.2).bind fun q15 => if q15.2 = 0 then some (.inl (q15.1, q9.2.1, q9.2.2 + 1)) else if q9.2.1 = a1 then if a2 = 0 then some (.inr (.inr (q15.1, gS q15.1 0 4))) else gck (gIn ((gS q15.1 0 6) - (1 : Int32)) 8) (some (.inr (.inr (q15.1, gS q15.1 4 ((gS q15.1 0 6) - (1 : Int32)).toNatClampNeg)))) else some (.inl (q15.1, q9.2.1 + 1, q9.2.2 + 1))
def f_X11_counted (G : gP) (a1 : Int32) (a2 : Int32) : Option (gP × Int32) :=
  if a1 < 0 then some (G, (-1 : Int32)) else if (f_X11_in a2.toInt64 (0 : Int64) (1 : Int64)) = 0 then some (G, (-1 : Int32)) else (f_X11_finds G).bind fun q4 => Option.bind (if (gS q4 0 10) = (-4 : Int32) then some (0 : Int32) else (f_X11_readings q4).bind fun q23 => some q23) fun q6 => (gloop (f_X11_counted_b44 q6 a1 a2) gFu (q4, (0 : Int32), (0 : Int32))).bind fun q10 => gsum q10 (fun zq10 => some (zq10, (-4 : Int32))) (fun r => some r)
def f_X11_likely_b69 (q13 : gP × Int32) (q21 : Int64 × Int32) : Option ((Int64 × Int32) ⊕ (Int64)) :=
  if (gS q13.1 1 0) ≤ q21.2 then some (.inr q21.1) else gck (gIn q21.2 8) (gck (gIn (((f_X11_at q21.2) + (5 : Int32)) + (gS q13.1 2 q21.2.toNatClampNeg)) 76) (gLet (q21.1 * (((10 : Int32) - (gS q13.1 1 (((f_X11_at q21.2) + (5 : Int32)) + (gS q13.1 2 q21.2.toNatClampNeg)).toNatClampNeg)).toInt64)) fun x29 => some (.inl (x29, q21.2 + 1))))
def f_X11_likely_b40 (q5 : Int32) (a1 : Int32) (q7 : gP × Int64 × Int64 × Int32) : Option ((gP × Int64 × Int64 × Int32) ⊕ (gP × Int64 × Int64)) :=
  if q5 ≤ q7.2.2.2 then some (.inr (q7.1, q7.2.1, q7.2.2.1)) else (f_X11_takes q7.1 q7.2.2.2).bind fun q13 => if q13.2 = 0 then some (.inl (q13.1, q7.2.1, q7.2.2.1, q7.2.2.2 + 1)) else (f_X11_holds q13.1).bind fun q17 => if q17 = 0 then some (.inl (q13.1, q7.2.1, q7.2.2.1, q7.2.2.2 + 1)) else (gloop (f_X11_likely_b69 q13) gFu ((1 : Int64), (0 : Int32))).bind fun q22 => gLet (q7.2.2.1 + q22) fun x31 => gck (gIn ((gS q13.1 0 6) - (1 : Int32)) 8) (gLet (if (gS q13.1 4 ((gS q13.1 0 6) - (1 : Int32)).toNatClampNeg) = a1 then q22 else (0 : Int64)) fun q34 => gLet (q7.2.1 + q34) fun x37 => some (.inl (q13.1, x37, x31, q7.2.2.2 + 1)))
def f_X11_likely_b171  (q41 : Int64 × Int64) : Option ((Int64 × Int64) ⊕ (Int64)) :=
  if q41.2 = (0 : Int64) then some (.inr q41.1) else gck (gNzL q41.2) (gLet (gRemL q41.1 q41.2) fun x48 => some (.inl (q41.2, x48)))
def f_X11_likely (G : gP) (a1 : Int32) (a2 : Int32) : Option (gP × Int64) :=
  if (f_X11_in a1.toInt64 (0 : Int64) (999999 : Int64)) = 0 then some (G, (-1 : Int64)) else if (f_X11_in a2.toInt64 (0 : Int64) (1 : Int64)) = 0 then some (G, (-1 : Int64)) else (f_X11_readings G).bind fun q5 => (gloop (f_X11_likely_b40 q5 a1) gFu (G, (0 : Int64), (0 : Int64), (0 : Int32))).bind fun q8 => if q8.2.2 = (0 : Int64) then some (q8.1, (-4 : Int64)) else (gloop (f_X11_likely_b171) gFu (q8.2.1, q8.2.2)).bind fun q42 => if a2 = 0 then gck (gNzL q42) (some (q8.1, q8.2.1 / q42)) else gck (gNzL q42) (some (q8.1, q8.2.2 / q42))
def f_X11_image_b2  (q1 : gP × Int32) : Option ((gP × Int32) ⊕ (gP)) :=
  if (76 : Int32) ≤ q1.2 then some (.inr q1.1) else gck (gIn q1.2 76) (gck (gIn q1.2 76) (gLet (gS1 q1.1 15 q1.2.toNatClampNeg (gS q1.1 1 q1.2.toNatClampNeg)) fun G9 => some (.inl (G9, q1.2 + 1))))
def f_X11_image_b28  (q11 : gP × Int32) : Option ((gP × Int32) ⊕ (gP)) :=
  if (608 : Int32) ≤ q11.2 then some (.inr q11.1) else gck (gIn q11.2 608) (gck (gIn q11.2 608) (gLet (gS1 q11.1 16 q11.2.toNatClampNeg (gS q11.1 14 q11.2.toNatClampNeg)) fun G19 => some (.inl (G19, q11.2 + 1))))
def f_X11_image (G : gP) : Option (gP × Int32) :=
  (gloop (f_X11_image_b2) gFu (G, (0 : Int32))).bind fun q2 => (gloop (f_X11_image_b28) gFu (q2, (0 : Int32))).bind fun q12 => gLet (gS1 q12 0 32 (gS q12 0 29)) fun G21 => some (G21, (1 : Int32))
def f_X11_restore_b12  (q2 : gP × Int32) : Option ((gP × Int32) ⊕ (gP)) :=
  if (76 : Int32) ≤ q2.2 then some (.inr q2.1) else gck (gIn q2.2 76) (gck (gIn q2.2 76) (gLet (gS1 q2.1 1 q2.2.toNatClampNeg (gS q2.1 15 q2.2.toNatClampNeg)) fun G10 => some (.inl (G10, q2.2 + 1))))
def f_X11_restore_b38  (q12 : gP × Int32) : Option ((gP × Int32) ⊕ (gP)) :=
  if (608 : Int32) ≤ q12.2 then some (.inr q12.1) else gck (gIn q12.2 608) (gck (gIn q12.2 608) (gLet (gS1 q12.1 14 q12.2.toNatClampNeg (gS q12.1 16 q12.2.toNatClampNeg)) fun G20 => some (.inl (G20, q12.2 + 1))))
def f_X11_restore (G : gP) : Option (gP × Int32) :=
  if 0 ≤ (gS G 0 32) then (gloop (f_X11_restore_b12) gFu (G, (0 : Int32))).bind fun q3 => (gloop (f_X11_restore_b38) gFu (q3, (0 : Int32))).bind fun q13 => gLet (gS1 q13 0 29 (gS q13 0 32)) fun G22 => some (G22, (1 : Int32)) else some (G, (-4 : Int32))
def f_X11_isSheet (a0 : Int32) : Int32 :=
  f_X11_in a0.toInt64 (0 : Int64) (3 : Int64)
def f_X11_sheet_b51 (a1 : Int32) (q13 : gP × Int32) : Option ((gP × Int32) ⊕ (gP)) :=
  if (24 : Int32) ≤ q13.2 then some (.inr q13.1) else gck (gIn (((24 : Int32) * a1) + q13.2) 96) (gLet (gL1 q13.1 19 (((24 : Int32) * a1) + q13.2).toNatClampNeg (0 : Int64)) fun G20 => some (.inl (G20, q13.2 + 1)))
def f_X11_sheet (G : gP) (a1 : Int32) (a2 : Int32) (a3 : Int32) : Option (gP × Int32) :=
  if (f_X11_isSheet a1) = 0 then some (G, (-1 : Int32)) else if (f_X11_in a2.toInt64 (0 : Int64) (3 : Int64)) = 0 then some (G, (-1 : Int32)) else if a3 ≤ (24 : Int32) then if 0 ≤ a3 then gck (gIn a1 4) (gLet (gS1 G 17 a1.toNatClampNeg a2) fun G8 => gck (gIn a1 4) (gLet (gS1 G8 18 a1.toNatClampNeg a3) fun G11 => (gloop (f_X11_sheet_b51 a1) gFu (G11, (0 : Int32))).bind fun q14 => some (q14, a3))) else some (G, (-14 : Int32)) else some (G, (-1 : Int32))
def f_X11_drop (G : gP) (a1 : Int32) : Option (gP × Int32) :=
  if (f_X11_isSheet a1) = 0 then some (G, (-1 : Int32)) else gck (gIn a1 4) (if 0 ≤ (gS G 17 a1.toNatClampNeg) then gck (gIn a1 4) (gLet (gS1 G 17 a1.toNatClampNeg (-1 : Int32)) fun G6 => gck (gIn a1 4) (some (G6, gS G6 18 a1.toNatClampNeg))) else some (G, (-11 : Int32)))
def f_X11_why (G : gP) (a1 : Int32) (a2 : Int32) (a3 : Int32) (a4 : Int32) : Option (Int32) :=
  gck (gIn a1 4) (if 0 ≤ (gS G 17 a1.toNatClampNeg) then gck (gIn a1 4) (if (gS G 17 a1.toNatClampNeg) = a2 then if a3 < 0 then some (-13 : Int32) else gck (gIn a1 4) (if a4 ≤ ((gS G 18 a1.toNatClampNeg) - a3) then some (0 : Int32) else some (-13 : Int32)) else some (-12 : Int32)) else some (-11 : Int32))
def f_X11_cut (a0 : Int64) (a2 : Int32) : Int64 :=
  if a2 = 0 then a0.toInt32.toInt8.toInt32.toInt64 else if a2 = (1 : Int32) then a0.toInt32.toInt16.toInt32.toInt64 else if a2 = (2 : Int32) then a0.toInt32.toInt64 else a0
def f_X11_item (G : gP) (a1 : Int32) (a2 : Int32) (a3 : Int32) (a4 : Int64) : Option (gP × Int32) :=
  if (f_X11_isSheet a1) = 0 then some (G, (-1 : Int32)) else if (f_X11_in a2.toInt64 (0 : Int64) (3 : Int64)) = 0 then some (G, (-1 : Int32)) else (f_X11_why G a1 a2 a3 (1 : Int32)).bind fun q5 => if 0 ≤ q5 then gck (gIn (((24 : Int32) * a1) + a3) 96) (gLet (gL1 G 19 (((24 : Int32) * a1) + a3).toNatClampNeg (f_X11_cut a4 a2)) fun G9 => some (G9, (1 : Int32))) else some (G, q5)
def f_X11_copy_b110 (a5 : Int32) (a1 : Int32) (a2 : Int32) (q19 : gP × Int32) : Option ((gP × Int32) ⊕ (gP)) :=
  if a5 ≤ q19.2 then some (.inr q19.1) else gck (gIn ((((24 : Int32) * a1) + a2) + q19.2) 96) (gck (gIn q19.2 24) (gLet (gL1 q19.1 20 q19.2.toNatClampNeg (gL q19.1 19 ((((24 : Int32) * a1) + a2) + q19.2).toNatClampNeg)) fun G27 => some (.inl (G27, q19.2 + 1))))
def f_X11_copy_b147 (a5 : Int32) (a3 : Int32) (a4 : Int32) (q29 : gP × Int32) : Option ((gP × Int32) ⊕ (gP)) :=
  if a5 ≤ q29.2 then some (.inr q29.1) else gck (gIn q29.2 24) (gck (gIn ((((24 : Int32) * a3) + a4) + q29.2) 96) (gLet (gL1 q29.1 19 ((((24 : Int32) * a3) + a4) + q29.2).toNatClampNeg (gL q29.1 20 q29.2.toNatClampNeg)) fun G37 => some (.inl (G37, q29.2 + 1))))
def f_X11_copy (G : gP) (a1 : Int32) (a2 : Int32) (a3 : Int32) (a4 : Int32) (a5 : Int32) : Option (gP × Int32) :=
  if (f_X11_isSheet a1) = 0 then some (G, (-1 : Int32)) else if (f_X11_isSheet a3) = 0 then some (G, (-1 : Int32)) else gck (gIn a1 4) (if (gS G 17 a1.toNatClampNeg) < 0 then some (G, (-11 : Int32)) else gck (gIn a3 4) (if 0 ≤ (gS G 17 a3.toNatClampNeg) then gck (gIn a1 4) (gck (gIn a3 4) (if (gS G 17 a1.toNatClampNeg) = (gS G 17 a3.toNatClampNeg) then if a5 < 0 then some (G, (-13 : Int32)) else if a2 < 0 then some (G, (-13 : Int32)) else if a4 < 0 then some (G, (-13 : Int32)) else gck (gIn a1 4) (if ((gS G 18 a1.toNatClampNeg).toInt64) < (a2.toInt64 + a5.toInt64) then some (G, (-13 : Int32)) else gck (gIn a3 4) (if (a4.toInt64 + a5.toInt64) ≤ ((gS G 18 a3.toNatClampNeg).toInt64) then (gloop (f_X11_copy_b110 a5 a1 a2) gFu (G, (0 : Int32))).bind fun q20 => (gloop (f_X11_copy_b147 a5 a3 a4) gFu (q20, (0 : Int32))).bind fun q30 => some (q30, a5) else some (G, (-13 : Int32)))) else some (G, (-12 : Int32)))) else some (G, (-11 : Int32))))
def f_X11_meant_b104 (a4 : Int32) (a1 : Int32) (a3 : Int32) (q20 : gP) (q25 : Int32 × Int32) : Option ((Int32 × Int32) ⊕ (Int32)) :=
  if a4 ≤ q25.2 then some (.inr q25.1) else if q25.1 = 0 then some (.inr q25.1) else gck (gIn q25.2 8) (gck (gIn ((((24 : Int32) * a1) + a3) + q25.2) 96) (if ((gS q20 5 q25.2.toNatClampNeg).toInt64) = (gL q20 19 ((((24 : Int32) * a1) + a3) + q25.2).toNatClampNeg) then some (.inl ((1 : Int32), q25.2 + 1)) else some (.inl ((0 : Int32), q25.2 + 1))))
def f_X11_meant_b67 (a4 : Int32) (a1 : Int32) (a3 : Int32) (q12 : gP × Int32 × Int32) : Option ((gP × Int32 × Int32) ⊕ (gP × Int32)) :=
  if (5 : Int32) ≤ q12.2.2 then some (.inr (q12.1, q12.2.1)) else gLet (gS1 q12.1 1 1 q12.2.2) fun G18 => (f_X11_finds G18).bind fun q20 => gLet (if (gS q20 0 13) = a4 then (1 : Int32) else (0 : Int32)) fun q22 => (gloop (f_X11_meant_b104 a4 a1 a3 q20) gFu (q22, (0 : Int32))).bind fun q26 => gLet (if q26 = 0 then (0 : Int32) else gShl (1 : Int32) q12.2.2) fun q35 => gLet (q12.2.1 ||| q35) fun x38 => some (.inl (q20, x38, q12.2.2 + 1))
def f_X11_meant (G : gP) (a1 : Int32) (a2 : Int32) (a3 : Int32) (a4 : Int32) : Option (gP × Int32) :=
  if (f_X11_isSheet a1) = 0 then some (G, (-1 : Int32)) else if (f_X11_in a2.toInt64 (0 : Int64) (3 : Int64)) = 0 then some (G, (-1 : Int32)) else if (f_X11_in a4.toInt64 (1 : Int64) (6 : Int64)) = 0 then some (G, (-1 : Int32)) else (f_X11_why G a1 a2 a3 a4).bind fun q7 => if 0 ≤ q7 then gLet (gS G 1 1) fun x10 => (gloop (f_X11_meant_b67 a4 a1 a3) gFu (G, (0 : Int32), (0 : Int32))).bind fun q13 => gLet (gS1 q13.1 1 1 x10) fun G42 => some (G42, q13.2) else some (G, q7)
def f_X11_film_b61 (a1 : Int32) (a3 : Int32) (a2 : Int32) (q11 : gP × Int32) : Option ((gP × Int32) ⊕ (gP)) :=
  if (gS q11.1 0 13) ≤ q11.2 then some (.inr q11.1) else gck (gIn q11.2 8) (gck (gIn ((((24 : Int32) * a1) + a3) + q11.2) 96) (gLet (gL1 q11.1 19 ((((24 : Int32) * a1) + a3) + q11.2).toNatClampNeg (f_X11_cut ((gS q11.1 5 q11.2.toNatClampNeg).toInt64) a2)) fun G19 => some (.inl (G19, q11.2 + 1))))
def f_X11_film (G : gP) (a1 : Int32) (a2 : Int32) (a3 : Int32) : Option (gP × Int32) :=
  if (f_X11_isSheet a1) = 0 then some (G, (-1 : Int32)) else if (f_X11_in a2.toInt64 (0 : Int64) (3 : Int64)) = 0 then some (G, (-1 : Int32)) else (f_X11_finds G).bind fun q5 => if (gS q5 0 10) = (-4 : Int32) then some (q5, (-4 : Int32)) else (f_X11_why q5 a1 a2 a3 (gS q5 0 13)).bind fun q8 => if 0 ≤ q8 then (gloop (f_X11_film_b61 a1 a3 a2) gFu (q5, (0 : Int32))).bind fun q12 => some (q12, gS q12 0 13) else some (q5, q8)
def f_J4_numberOfTrailingZeros (a0 : Int32) : Int32 :=
  gLet ((a0 ^^^ (-1 : Int32)) &&& (a0 - (1 : Int32))) fun x1 => if 0 < x1 then gLet (if x1 ≤ (65536 : Int32) then (x1, (1 : Int32)) else gLet (gUshr x1 (16 : Int32)) fun x26 => (x26, (1 : Int32) + 16)) fun q4 => gLet (if q4.1 ≤ (256 : Int32) then (q4.1, q4.2) else gLet (gUshr q4.1 (8 : Int32)) fun x23 => (x23, q4.2 + 8)) fun q7 => gLet (if q7.1 ≤ (16 : Int32) then (q7.1, q7.2) else gLet (gUshr q7.1 (4 : Int32)) fun x20 => (x20, q7.2 + 4)) fun q10 => gLet (if q10.1 ≤ (4 : Int32) then (q10.1, q10.2) else gLet (gUshr q10.1 (2 : Int32)) fun x17 => (x17, q10.2 + 2)) fun q13 => q13.2 + (gUshr q13.1 (1 : Int32)) else x1 &&& (32 : Int32)
def f_J2_numberOfTrailingZeros (a0 : Int64) : Int32 :=
  if a0.toInt32 = 0 then (32 : Int32) + (f_J4_numberOfTrailingZeros ((gUshrL a0 (32 : Int32)).toInt32)) else f_J4_numberOfTrailingZeros a0.toInt32
def f_J2_bitCount (a0 : Int64) : Int32 :=
  gLet (a0 - ((gUshrL a0 (1 : Int32)) &&& (6148914691236517205 : Int64))) fun x1 => gLet ((x1 &&& (3689348814741910323 : Int64)) + ((gUshrL x1 (2 : Int32)) &&& (3689348814741910323 : Int64))) fun x3 => gLet ((x3 + (gUshrL x3 (4 : Int32))) &&& (1085102592571150095 : Int64)) fun x5 => gLet (x5 + (gUshrL x5 (8 : Int32))) fun x7 => gLet (x7 + (gUshrL x7 (16 : Int32))) fun x9 => gLet (x9 + (gUshrL x9 (32 : Int32))) fun x11 => x11.toInt32 &&& (127 : Int32)
def f_X0_isIn (a0 : Int64) (a2 : Int64) (a4 : Int64) : Int32 :=
  if a0 < a2 then (0 : Int32) else if a4 < a0 then (0 : Int32) else (1 : Int32)
def f_X0_isUnit (a0 : Int32) : Int32 :=
  f_X0_isIn a0.toInt64 (1 : Int64) (9 : Int64)
def f_X0_isSlot (G : gP) (a1 : Int32) : Int32 :=
  f_X0_isIn a1.toInt64 (0 : Int64) (((gS G 32 1) - (1 : Int32)).toInt64)
def f_X0_isWord (a0 : Int32) : Int32 :=
  f_X0_isIn a0.toInt64 (0 : Int64) (31 : Int64)
def f_X0_isCost (a0 : Int32) : Int32 :=
  f_X0_isIn a0.toInt64 (0 : Int64) (9 : Int64)
def f_X1_holds_14 (a2 : Int32) : Int32 :=
  if a2 ≤ 0 then (0 : Int32) else (1 : Int32)
def f_X1_holds_15 (a2 : Int32) : Int32 :=
  if a2 ≤ 0 then (0 : Int32) else (1 : Int32)
def f_X1_holds_16 (a2 : Int32) : Int32 :=
  if a2 ≤ 0 then (0 : Int32) else (1 : Int32)
def f_X1_holds_17 (a2 : Int32) : Int32 :=
  if a2 ≤ 0 then (0 : Int32) else (1 : Int32)
def f_X1_holds_18 (a2 : Int32) : Int32 :=
  if a2 ≤ 0 then (0 : Int32) else (1 : Int32)
def f_X1_kind_14  : Int32 :=
  (0 : Int32)
def f_X2_kind_15  : Int32 :=
  (1 : Int32)
def f_X2_part_15 (a1 : Int32) : Int32 :=
  a1
def f_X2_part_17 (a1 : Int32) : Int32 :=
  a1
def f_X4_kind_17  : Int32 :=
  (3 : Int32)
def f_X4_part_17 (a1 : Int32) : Int32 :=
  gRem (f_X2_part_17 a1) (100 : Int32)
def f_X2_holds_15_b5 (a2 : Int32) (G : gP) (q1 : Int32 × Int32) : Option ((Int32 × Int32) ⊕ (Int32)) :=
  if (a2 - (1 : Int32)) ≤ q1.2 then some (.inr q1.1) else gck (gIn q1.2 8) (gLet (q1.1 + (gS G 2 q1.2.toNatClampNeg)) fun x8 => some (.inl (x8, q1.2 + 1)))
def f_X2_holds_15 (G : gP) (a2 : Int32) : Option (Int32) :=
  (gloop (f_X2_holds_15_b5 a2 G) gFu ((0 : Int32), (0 : Int32))).bind fun q2 => if (f_X1_holds_15 (a2 - (1 : Int32))) = 0 then some (0 : Int32) else gck (gIn (a2 - (1 : Int32)) 8) (if (f_X2_part_15 q2) = (f_X2_part_15 (gS G 2 (a2 - (1 : Int32)).toNatClampNeg)) then some (1 : Int32) else some (0 : Int32))
def f_X2_holds_17_b5 (a2 : Int32) (G : gP) (q1 : Int32 × Int32) : Option ((Int32 × Int32) ⊕ (Int32)) :=
  if (a2 - (1 : Int32)) ≤ q1.2 then some (.inr q1.1) else gck (gIn q1.2 8) (gLet (q1.1 + (gS G 2 q1.2.toNatClampNeg)) fun x8 => some (.inl (x8, q1.2 + 1)))
def f_X2_holds_17 (G : gP) (a2 : Int32) : Option (Int32) :=
  (gloop (f_X2_holds_17_b5 a2 G) gFu ((0 : Int32), (0 : Int32))).bind fun q2 => if (f_X1_holds_17 (a2 - (1 : Int32))) = 0 then some (0 : Int32) else gck (gIn (a2 - (1 : Int32)) 8) (if (f_X4_part_17 q2) = (f_X4_part_17 (gS G 2 (a2 - (1 : Int32)).toNatClampNeg)) then some (1 : Int32) else some (0 : Int32))
def f_X3_kind_16  : Int32 :=
  (2 : Int32)
def f_X3_holds_16_b10 (a2 : Int32) (G : gP) (q4 : Int32 × Int32) : Option ((Int32 × Int32) ⊕ (Int32)) :=
  if a2 ≤ q4.2 then some (.inr q4.1) else if q4.1 = 0 then some (.inl ((0 : Int32), q4.2 + 1)) else gck (gIn q4.2 8) (gck (gIn (q4.2 - (1 : Int32)) 8) (if (gS G 2 q4.2.toNatClampNeg) ≤ (gS G 2 (q4.2 - (1 : Int32)).toNatClampNeg) then some (.inl ((0 : Int32), q4.2 + 1)) else some (.inl ((1 : Int32), q4.2 + 1))))
def f_X3_holds_16 (G : gP) (a2 : Int32) : Option (Int32) :=
  gLet (f_X1_holds_16 a2) fun x2 => (gloop (f_X3_holds_16_b10 a2 G) gFu (x2, (1 : Int32))).bind fun q5 => gck (gZ q5) (some q5)
def f_X3_holds_18_b10 (a2 : Int32) (G : gP) (q4 : Int32 × Int32) : Option ((Int32 × Int32) ⊕ (Int32)) :=
  if a2 ≤ q4.2 then some (.inr q4.1) else if q4.1 = 0 then some (.inl ((0 : Int32), q4.2 + 1)) else gck (gIn q4.2 8) (gck (gIn (q4.2 - (1 : Int32)) 8) (if (gS G 2 q4.2.toNatClampNeg) ≤ (gS G 2 (q4.2 - (1 : Int32)).toNatClampNeg) then some (.inl ((0 : Int32), q4.2 + 1)) else some (.inl ((1 : Int32), q4.2 + 1))))
def f_X3_holds_18 (G : gP) (a2 : Int32) : Option (Int32) :=
  gLet (f_X1_holds_18 a2) fun x2 => (gloop (f_X3_holds_18_b10 a2 G) gFu (x2, (1 : Int32))).bind fun q5 => gck (gZ q5) (some q5)
def f_X5_kind_18  : Int32 :=
  (4 : Int32)
def f_X5_holds_18_b10 (a2 : Int32) (G : gP) (q4 : Int32 × Int32) : Option ((Int32 × Int32) ⊕ (Int32)) :=
  if a2 ≤ q4.2 then some (.inr q4.1) else if q4.1 = 0 then some (.inl ((0 : Int32), q4.2 + 1)) else gck (gIn q4.2 8) (gck (gIn (q4.2 - (1 : Int32)) 8) (if ((gS G 2 q4.2.toNatClampNeg) - (gS G 2 (q4.2 - (1 : Int32)).toNatClampNeg)) = ((gS G 2 1) - (gS G 2 0)) then some (.inl ((1 : Int32), q4.2 + 1)) else some (.inl ((0 : Int32), q4.2 + 1))))
def f_X5_holds_18 (G : gP) (a2 : Int32) : Option (Int32) :=
  (f_X3_holds_18 G a2).bind fun q1 => (gloop (f_X5_holds_18_b10 a2 G) gFu (q1, (2 : Int32))).bind fun q5 => gck (gZ q5) (some q5)
def f_X7_add (G : gP) (k0 : Nat) (a1 : Int32) (a2 : Int32) : Option (gP) :=
  gck (gIn (gS G k0 2) 4) (gLet (gS1 G (k0 + 1) (gS G k0 2).toNatClampNeg a1) fun G2 => gck (gIn (gS G2 k0 2) 4) (gLet (gS1 G2 (k0 + 2) (gS G2 k0 2).toNatClampNeg a2) fun G5 => gLet (gS1 G5 k0 2 ((gS G5 k0 2) + (1 : Int32))) fun G7 => some G7))
def f_X7_takeFrom (G : gP) (k0 : Nat) (a1 : Nat) : Option (gP) :=
  gLet (gSc G (a1 + 1) 0 (k0 + 1) 0 4) fun G2 => gLet (gSc G2 (a1 + 2) 0 (k0 + 2) 0 4) fun G5 => gLet (gS1 G5 k0 2 (gS G5 a1 2)) fun G7 => some G7
def f_X7_find_b2 (G : gP) (k0 : Nat) (a1 : Int32) (q1 : Int32) : Option ((Int32) ⊕ ((Unit) ⊕ (Int32))) :=
  if (gS G k0 2) ≤ q1 then some (.inr (.inl ())) else gck (gIn q1 4) (if (gS G (k0 + 1) q1.toNatClampNeg) = a1 then some (.inr (.inr q1)) else some (.inl (q1 + 1)))
def f_X7_find (G : gP) (k0 : Nat) (a1 : Int32) : Option (Int32) :=
  (gloop (f_X7_find_b2 G k0 a1) gFu (0 : Int32)).bind fun q2 => gsum q2 (fun zq2 => some (-4 : Int32)) (fun r => some r)
def f_X7_keepAlone (G : gP) (k0 : Nat) (a1 : Int32) : Option (gP) :=
  gck (gIn a1 4) (gLet (gS1 G (k0 + 1) 0 (gS G (k0 + 1) a1.toNatClampNeg)) fun G2 => gck (gIn a1 4) (gLet (gS1 G2 (k0 + 2) 0 (gS G2 (k0 + 2) a1.toNatClampNeg)) fun G5 => gLet (gS1 G5 k0 2 (1 : Int32)) fun G7 => some G7))
def f_X6_takeFrom_b2 (a1 : Nat) (k0 : Nat) (q1 : gP × Int32) : Option ((gP × Int32) ⊕ (gP)) :=
  if (gS q1.1 a1 1) ≤ q1.2 then some (.inr q1.1) else gck (gIn q1.2 8) ((xRef (gR q1.1 (k0 + 1) q1.2.toNatClampNeg) 7).bind fun k8 => gck (gIn q1.2 8) ((xRef (gR q1.1 (a1 + 1) q1.2.toNatClampNeg) 7).bind fun k12 => (f_X7_takeFrom q1.1 k8 k12).bind fun q15 => some (.inl (q15, q1.2 + 1))))
def f_X6_takeFrom (G : gP) (k0 : Nat) (a1 : Nat) : Option (gP) :=
  (gloop (f_X6_takeFrom_b2 a1 k0) gFu (G, (0 : Int32))).bind fun q2 => gLet (gS1 q2 k0 1 (gS q2 a1 1)) fun G17 => gLet (gS1 G17 k0 2 (gS G17 a1 2)) fun G19 => gLet (gS1 G19 k0 3 (gS G19 a1 3)) fun G21 => gLet (gS1 G21 k0 4 (gS G21 a1 4)) fun G23 => some G23
def f_X6_begin (G : gP) (k0 : Nat) : Option (gP) :=
  gLet (gS1 G k0 1 (0 : Int32)) fun G1 => some G1
def f_X6_come (G : gP) (k0 : Nat) : Option (gP × Nat) :=
  gck (gIn (gS G k0 1) 8) ((xRef (gR G (k0 + 1) (gS G k0 1).toNatClampNeg) 7).bind fun k2 => gLet (gS1 G k2 2 (0 : Int32)) fun G5 => gLet (gS1 G5 k0 1 ((gS G5 k0 1) + (1 : Int32))) fun G7 => some (G7, k2))
def f_X6_lose (G : gP) (k0 : Nat) (a1 : Int32) : Option (gP) :=
  gck (gIn a1 8) ((xRef (gR G (k0 + 1) a1.toNatClampNeg) 7).bind fun k2 => gLet (gS1 G k0 1 ((gS G k0 1) - (1 : Int32))) fun G5 => gck (gCp (a1 + (1 : Int32)) a1 ((gS G5 k0 1) - a1) 8 8) (gck (gEl G5 (k0 + 1) (a1 + (1 : Int32)).toNatClampNeg ((gS G5 k0 1) - a1).toNatClampNeg 7) (gLet (gRc G5 (k0 + 1) (a1 + (1 : Int32)).toNatClampNeg (k0 + 1) a1.toNatClampNeg ((gS G5 k0 1) - a1).toNatClampNeg) fun G9 => gck (gIn (gS G9 k0 1) 8) (gLet (gR1 G9 (k0 + 1) (gS G9 k0 1).toNatClampNeg (some k2)) fun G12 => some G12))))
def f_X10_begin (G : gP) (k0 : Nat) : Option (gP) :=
  gLet (gS1 G k0 0 (0 : Int32)) fun G1 => gLet (gS1 G1 k0 1 (0 : Int32)) fun G3 => gLet (gS1 G3 k0 2 (0 : Int32)) fun G5 => gLet (gS1 G5 k0 3 (0 : Int32)) fun G7 => gLet (gS1 G7 k0 4 (0 : Int32)) fun G9 => some G9
def f_X10_takeFrom (G : gP) (k0 : Nat) (a1 : Nat) : Option (gP) :=
  gLet (gS1 G k0 0 (gS G a1 0)) fun G1 => gLet (gS1 G1 k0 1 (gS G1 a1 1)) fun G3 => gLet (gS1 G3 k0 2 (gS G3 a1 2)) fun G5 => gLet (gS1 G5 k0 3 (gS G5 a1 3)) fun G7 => gck (gZ (gS G7 a1 4)) (gLet (gS1 G7 k0 4 (gS G7 a1 4)) fun G10 => some G10)
def f_X10_mayEnd (G : gP) (k0 : Nat) : Int32 :=
  if (gS G k0 0) = 0 then (0 : Int32) else if (gS G k0 0) = (5 : Int32) then (0 : Int32) else (1 : Int32)
def f_X10_end (G : gP) (k0 : Nat) : Option (gP) :=
  gck (gIn (gS G k0 3) 8) (gLet (gS1 G 2 (gS G k0 3).toNatClampNeg ((gS G k0 2) + (gS G k0 1))) fun G2 => gLet (gS1 G2 k0 3 ((gS G2 k0 3) + (1 : Int32))) fun G4 => gLet (gS1 G4 k0 0 (0 : Int32)) fun G6 => gLet (gS1 G6 k0 1 (0 : Int32)) fun G8 => gLet (gS1 G8 k0 2 (0 : Int32)) fun G10 => gLet (gS1 G10 k0 4 (0 : Int32)) fun G12 => some G12)
def f_X10_goOn (G : gP) (k0 : Nat) (a1 : Int32) (a2 : Int32) (a3 : Int32) : Option (gP × Int32) :=
  if a1 = 0 then gck (gZ a1) (some (G, a1)) else gLet (gS1 G k0 0 a2) fun G3 => gLet (gS1 G3 k0 1 a3) fun G5 => gck (gZ a1) (some (G5, a1))
def f_X10_hearLow (G : gP) (k0 : Nat) (a1 : Int32) : Option (gP × Int32) :=
  gLet (if (gS G k0 0) = 0 then (1 : Int32) else if (gS G k0 0) = (6 : Int32) then (1 : Int32) else (0 : Int32)) fun q1 => gLet (if q1 = 0 then if (gS G k0 0) = (4 : Int32) then (1 : Int32) else if (gS G k0 0) = (5 : Int32) then (1 : Int32) else if (gS G k0 0) = (2 : Int32) then if (f_X0_isUnit a1) = 0 then (0 : Int32) else (1 : Int32) else (0 : Int32) else (1 : Int32)) fun q4 => gLet (if q1 = 0 then if a1 < (20 : Int32) then (3 : Int32) else (2 : Int32) else if (f_X0_isUnit a1) = 0 then if a1 < (20 : Int32) then (3 : Int32) else (2 : Int32) else (1 : Int32)) fun q7 => gck (gIn a1 32) ((f_X10_goOn G k0 q4 q7 ((gS G k0 1) + (xWorth a1.toNatClampNeg))).bind fun q11 => some (q11.1, q11.2))
def f_X10_hearThousand (G : gP) (k0 : Nat) : Option (gP × Int32) :=
  gLet (if (f_X10_mayEnd G k0) = 0 then (0 : Int32) else if (gS G k0 4) = 0 then (1 : Int32) else (0 : Int32)) fun q2 => gLet (if q2 = 0 then G else gLet (gS1 G k0 2 ((gS G k0 1) * (xWorth 29))) fun G12 => gLet (gS1 G12 k0 4 (1 : Int32)) fun G14 => G14) fun q5 => (f_X10_goOn q5 k0 q2 (6 : Int32) (0 : Int32)).bind fun q8 => some (q8.1, q8.2)
def f_X10_hearStop (G : gP) (k0 : Nat) : Option (gP × Int32) :=
  gLet (f_X10_mayEnd G k0) fun x2 => if x2 = 0 then gck (gZ x2) (some (G, x2)) else (f_X10_end G k0).bind fun q6 => gck (gZ x2) (some (q6, x2))
def f_X10_hear (G : gP) (k0 : Nat) (a1 : Int32) : Option (gP × Int32) :=
  if a1 = 0 then some (G, (1 : Int32)) else if a1 = 28 then gLet (if (gS G k0 0) = (1 : Int32) then (1 : Int32) else (0 : Int32)) fun q3 => (f_X10_goOn G k0 q3 (4 : Int32) ((gS G k0 1) * (xWorth 28))).bind fun q6 => some (q6.1, q6.2) else if a1 = 29 then (f_X10_hearThousand G k0).bind fun q11 => some (q11.1, q11.2) else if a1 = 30 then gLet (if (gS G k0 0) = (4 : Int32) then (1 : Int32) else if (gS G k0 0) = (6 : Int32) then (1 : Int32) else (0 : Int32)) fun q15 => (f_X10_goOn G k0 q15 (5 : Int32) (gS G k0 1)).bind fun q18 => some (q18.1, q18.2) else if a1 = 31 then (f_X10_hearStop G k0).bind fun q24 => some (q24.1, q24.2) else (f_X10_hearLow G k0 a1).bind fun q27 => some (q27.1, q27.2)
def f_X12_isSound_526 (G : gP) : Option (Int32) :=
  gck (gIn (gS G 32 2) 5) (if (gS G 32 2) = 0 then some (f_X1_holds_14 (gS G 0 5)) else if (gS G 32 2) = 1 then (f_X2_holds_15 G (gS G 0 5)).bind fun q5 => some q5 else if (gS G 32 2) = 2 then (f_X3_holds_16 G (gS G 0 5)).bind fun q9 => some q9 else if (gS G 32 2) = 3 then (f_X2_holds_17 G (gS G 0 5)).bind fun q13 => some q13 else if (gS G 32 2) = 4 then (f_X5_holds_18 G (gS G 0 5)).bind fun q17 => some q17 else none)
def f_X12_isSound_529 (G : gP) : Option (Int32) :=
  gck (gIn (gS G 32 2) 5) (if (gS G 32 2) = 0 then some (f_X1_holds_14 (gS G 0 5)) else if (gS G 32 2) = 1 then (f_X2_holds_15 G (gS G 0 5)).bind fun q5 => some q5 else if (gS G 32 2) = 2 then (f_X3_holds_16 G (gS G 0 5)).bind fun q9 => some q9 else if (gS G 32 2) = 3 then (f_X2_holds_17 G (gS G 0 5)).bind fun q13 => some q13 else if (gS G 32 2) = 4 then (f_X5_holds_18 G (gS G 0 5)).bind fun q17 => some q17 else none)
def f_X12_isSound_531 (G : gP) : Option (Int32) :=
  gck (gIn (gS G 32 2) 5) (if (gS G 32 2) = 0 then some (f_X1_holds_14 (gS G 0 5)) else if (gS G 32 2) = 1 then (f_X2_holds_15 G (gS G 0 5)).bind fun q5 => some q5 else if (gS G 32 2) = 2 then (f_X3_holds_16 G (gS G 0 5)).bind fun q9 => some q9 else if (gS G 32 2) = 3 then (f_X2_holds_17 G (gS G 0 5)).bind fun q13 => some q13 else if (gS G 32 2) = 4 then (f_X5_holds_18 G (gS G 0 5)).bind fun q17 => some q17 else none)
def f_X12_isSound_532 (G : gP) : Option (Int32) :=
  gck (gIn (gS G 32 2) 5) (if (gS G 32 2) = 0 then some (f_X1_holds_14 (gS G 0 5)) else if (gS G 32 2) = 1 then (f_X2_holds_15 G (gS G 0 5)).bind fun q5 => some q5 else if (gS G 32 2) = 2 then (f_X3_holds_16 G (gS G 0 5)).bind fun q9 => some q9 else if (gS G 32 2) = 3 then (f_X2_holds_17 G (gS G 0 5)).bind fun q13 => some q13 else if (gS G 32 2) = 4 then (f_X5_holds_18 G (gS G 0 5)).bind fun q17 => some q17 else none)
def f_X12_isSound_533 (G : gP) : Option (Int32) :=
  gck (gIn (gS G 32 2) 5) (if (gS G 32 2) = 0 then some (f_X1_holds_14 (gS G 0 5)) else if (gS G 32 2) = 1 then (f_X2_holds_15 G (gS G 0 5)).bind fun q5 => some q5 else if (gS G 32 2) = 2 then (f_X3_holds_16 G (gS G 0 5)).bind fun q9 => some q9 else if (gS G 32 2) = 3 then (f_X2_holds_17 G (gS G 0 5)).bind fun q13 => some q13 else if (gS G 32 2) = 4 then (f_X5_holds_18 G (gS G 0 5)).bind fun q17 => some q17 else none)
def f_X12_isSound_534 (G : gP) : Option (Int32) :=
  gck (gIn (gS G 32 2) 5) (if (gS G 32 2) = 0 then some (f_X1_holds_14 (gS G 0 5)) else if (gS G 32 2) = 1 then (f_X2_holds_15 G (gS G 0 5)).bind fun q5 => some q5 else if (gS G 32 2) = 2 then (f_X3_holds_16 G (gS G 0 5)).bind fun q9 => some q9 else if (gS G 32 2) = 3 then (f_X2_holds_17 G (gS G 0 5)).bind fun q13 => some q13 else if (gS G 32 2) = 4 then (f_X5_holds_18 G (gS G 0 5)).bind fun q17 => some q17 else none)
def f_X13_isAny (G : gP) : Int32 :=
  if (gS G 526 2) ≤ 0 then (0 : Int32) else (1 : Int32)
def f_X13_isSame_b22 (G : gP) (q4 : Int32 × Int32) : Option ((Int32 × Int32) ⊕ (Int32)) :=
  if (gS G 0 5) ≤ q4.2 then some (.inr q4.1) else if q4.1 = 0 then some (.inr q4.1) else gck (gIn q4.2 8) (gck (gIn q4.2 8) (if (gS G 2 q4.2.toNatClampNeg) = (gS G 528 q4.2.toNatClampNeg) then some (.inl ((1 : Int32), q4.2 + 1)) else some (.inl ((0 : Int32), q4.2 + 1))))
def f_X13_isSame (G : gP) : Option (Int32) :=
  gLet (if (gS G 0 5) = (gS G 526 6) then (1 : Int32) else (0 : Int32)) fun q1 => (gloop (f_X13_isSame_b22 G) gFu (q1, (0 : Int32))).bind fun q5 => gck (gZ q5) (some q5)
def f_X13_said (G : gP) (a1 : Int32) : Option (gP) :=
  gLet (gS1 G 526 1 ((gS G 526 1) + (1 : Int32))) fun G1 => (f_X12_isSound_526 G1).bind fun q3 => if q3 = 0 then some G1 else gLet (gS1 G1 526 2 ((gS G1 526 2) + (1 : Int32))) fun G7 => if (gS G7 526 3) ≤ a1 then some G7 else gLet (gS1 G7 526 3 a1) fun G10 => gLet (gSc G10 4 0 527 0 8) fun G13 => gLet (gSc G13 2 0 528 0 8) fun G16 => gLet (gS1 G16 526 6 (gS G16 0 5)) fun G18 => some G18
def f_X14_lay_b21  (q4 : gP × Int32) : Option ((gP × Int32) ⊕ (gP)) :=
  if (8 : Int32) ≤ q4.2 then some (.inr q4.1) else Option.bind (if (gS q4.1 32 1) ≤ q4.2 then some (0 : Int32) else gck (gIn q4.2 8) ((xRef (gR q4.1 33 q4.2.toNatClampNeg) 7).bind fun k26 => gck (gIn q4.2 8) (gck (gIn (gS q4.1 4 q4.2.toNatClampNeg) 4) (some (gS q4.1 (k26 + 1) (gS q4.1 4 q4.2.toNatClampNeg).toNatClampNeg))))) fun q10 => gck (gIn (((8 : Int32) * (gS q4.1 529 2)) + q4.2) 480) (gLet (gS1 q4.1 5 (((8 : Int32) * (gS q4.1 529 2)) + q4.2).toNatClampNeg q10) fun G14 => if (gS G14 0 5) ≤ q4.2 then gck (gIn (((8 : Int32) * (gS G14 529 2)) + q4.2) 480) (gLet (gS1 G14 6 (((8 : Int32) * (gS G14 529 2)) + q4.2).toNatClampNeg (0 : Int32)) fun G18 => some (.inl (G18, q4.2 + 1))) else gck (gIn q4.2 8) (gck (gIn (((8 : Int32) * (gS G14 529 2)) + q4.2) 480) (gLet (gS1 G14 6 (((8 : Int32) * (gS G14 529 2)) + q4.2).toNatClampNeg (gS G14 2 q4.2.toNatClampNeg)) fun G22 => some (.inl (G22, q4.2 + 1)))))
def f_X14_lay (G : gP) : Option (gP) :=
  gck (gIn (gS G 529 2) 60) (gLet (gS1 G 7 (gS G 529 2).toNatClampNeg (gS G 0 5)) fun G2 => (gloop (f_X14_lay_b21) gFu (G2, (0 : Int32))).bind fun q5 => some q5)
def f_X14_said_b18  (q6 : gP × Int32) : Option ((gP × Int32) ⊕ (gP)) :=
  if (gS q6.1 32 1) ≤ q6.2 then some (.inr q6.1) else gck (gIn q6.2 8) (gck (gIn q6.2 8) ((xRef (gR q6.1 33 q6.2.toNatClampNeg) 7).bind fun k14 => gck (gIn q6.2 8) (gck (gIn (gS q6.1 4 q6.2.toNatClampNeg) 4) (gck (gIn q6.2 8) (gLet (gL1 q6.1 530 q6.2.toNatClampNeg ((gL q6.1 530 q6.2.toNatClampNeg) ||| (gShlL (1 : Int64) (gS q6.1 (k14 + 1) (gS q6.1 4 q6.2.toNatClampNeg).toNatClampNeg)))) fun G20 => some (.inl (G20, q6.2 + 1)))))))
def f_X14_said (G : gP) (a1 : Int32) : Option (gP) :=
  if (gS G 529 1) < a1 then some G else (f_X12_isSound_529 G).bind fun q2 => if q2 = 0 then some G else (gloop (f_X14_said_b18) gFu (G, (0 : Int32))).bind fun q7 => Option.bind (if (60 : Int32) ≤ (gS q7 529 2) then some q7 else (f_X14_lay q7).bind fun q37 => some q37) fun q22 => Option.bind (if (gS q22 529 2) = (gS q22 529 4) then gLet (gS1 q22 529 5 a1) fun G31 => gck (gIn ((gS G31 0 5) - (1 : Int32)) 8) (gLet (gS1 G31 529 6 (gS G31 2 ((gS G31 0 5) - (1 : Int32)).toNatClampNeg)) fun G34 => some G34) else some q22) fun q25 => gLet (gS1 q25 529 2 ((gS q25 529 2) + (1 : Int32))) fun G28 => some G28
def f_X14_areSame_b30 (a1 : Int32) (a2 : Int32) (G : gP) (q6 : Int32 × Int32) : Option ((Int32 × Int32) ⊕ (Int32)) :=
  if (8 : Int32) ≤ q6.2 then some (.inr q6.1) else if q6.1 = 0 then some (.inr q6.1) else gck (gIn (((8 : Int32) * a1) + q6.2) 480) (gck (gIn (((8 : Int32) * a2) + q6.2) 480) (if (gS G 6 (((8 : Int32) * a1) + q6.2).toNatClampNeg) = (gS G 6 (((8 : Int32) * a2) + q6.2).toNatClampNeg) then some (.inl ((1 : Int32), q6.2 + 1)) else some (.inl ((0 : Int32), q6.2 + 1))))
def f_X14_areSame (G : gP) (a1 : Int32) (a2 : Int32) : Option (Int32) :=
  gck (gIn a1 60) (gck (gIn a2 60) (gLet (if (gS G 7 a1.toNatClampNeg) = (gS G 7 a2.toNatClampNeg) then (1 : Int32) else (0 : Int32)) fun q3 => (gloop (f_X14_areSame_b30 a1 a2 G) gFu (q3, (0 : Int32))).bind fun q7 => gck (gZ q7) (some q7)))
def f_X14_isSettled_b11 (G : gP) (a1 : Int64) (x1 : Int32) (q3 : Int32 × Int32) : Option ((Int32 × Int32) ⊕ (Int32)) :=
  if (gS G 529 2) ≤ q3.2 then some (.inr q3.1) else if q3.1 = 0 then some (.inr q3.1) else if ((gShrL a1 q3.2) &&& (1 : Int64)) = (0 : Int64) then some (.inl ((1 : Int32), q3.2 + 1)) else (f_X14_areSame G x1 q3.2).bind fun q11 => if q11 = 0 then some (.inl ((0 : Int32), q3.2 + 1)) else some (.inl ((1 : Int32), q3.2 + 1))
def f_X14_isSettled (G : gP) (a1 : Int64) : Option (Int32) :=
  gLet (f_J2_numberOfTrailingZeros a1) fun x1 => (gloop (f_X14_isSettled_b11 G a1 x1) gFu ((1 : Int32), x1)).bind fun q4 => gck (gZ q4) (some q4)
def f_X14_with_b6 (G : gP) (a1 : Int64) (a3 : Int32) (a4 : Int32) (q1 : Int64 × Int32) : Option ((Int64 × Int32) ⊕ (Int64)) :=
  if (gS G 529 2) ≤ q1.2 then some (.inr q1.1) else Option.bind (if ((gShrL a1 q1.2) &&& (1 : Int64)) = (1 : Int64) then gck (gIn (((8 : Int32) * q1.2) + a3) 480) (if (gS G 5 (((8 : Int32) * q1.2) + a3).toNatClampNeg) = a4 then some (gShlL (1 : Int64) q1.2) else some (0 : Int64)) else some (0 : Int64)) fun q7 => gLet (q1.1 ||| q7) fun x10 => some (.inl (x10, q1.2 + 1))
def f_X14_with (G : gP) (a1 : Int64) (a3 : Int32) (a4 : Int32) : Option (Int64) :=
  (gloop (f_X14_with_b6 G a1 a3 a4) gFu ((0 : Int64), (0 : Int32))).bind fun q2 => some q2
def f_X14_mostAlike_b6 (a3 : Int32) (G : gP) (a1 : Int64) (q1 : Int32 × Int32) : Option ((Int32 × Int32) ⊕ (Int32)) :=
  gck (gIn a3 8) ((xRef (gR G 33 a3.toNatClampNeg) 7).bind fun k7 => if (gS G k7 2) ≤ q1.2 then some (.inr q1.1) else gck (gIn a3 8) ((xRef (gR G 33 a3.toNatClampNeg) 7).bind fun k12 => gck (gIn q1.2 4) ((f_X14_with G a1 a3 (gS G (k12 + 1) q1.2.toNatClampNeg)).bind fun q16 => gLet (gMax q1.1 (f_J2_bitCount q16)) fun x18 => some (.inl (x18, q1.2 + 1)))))
def f_X14_mostAlike (G : gP) (a1 : Int64) (a3 : Int32) : Option (Int32) :=
  (gloop (f_X14_mostAlike_b6 a3 G a1) gFu ((0 : Int32), (0 : Int32))).bind fun q2 => some q2
def f_X14_look_b12 (G : gP) (a1 : Int64) (q3 : Int32 × Int32 × Int32) : Option ((Int32 × Int32 × Int32) ⊕ (Int32)) :=
  if (gS G 32 1) ≤ q3.2.2 then some (.inr q3.1) else (f_X14_mostAlike G a1 q3.2.2).bind fun q9 => gLet (if q3.2.1 ≤ q9 then q3.1 else q3.2.2) fun q11 => gLet (gMin q3.2.1 q9) fun x14 => some (.inl (q11, x14, q3.2.2 + 1))
def f_X14_look (G : gP) (a1 : Int64) : Option (Int32) :=
  gLet (f_J2_bitCount a1) fun x1 => (gloop (f_X14_look_b12 G a1) gFu ((-4 : Int32), x1, (0 : Int32))).bind fun q4 => some q4
def f_X14_ask_b31 (q4 : Int32) (G : gP) (a1 : Int64) (recf : gP → Int64 → Option (Int32)) (q8 : Int32 × Int32) : Option ((Int32 × Int32) ⊕ (Int32)) :=
  gck (gIn q4 8) ((xRef (gR G 33 q4.toNatClampNeg) 7).bind fun k14 => if (gS G k14 2) ≤ q8.2 then some (.inr q8.1) else gck (gIn q4 8) ((xRef (gR G 33 q4.toNatClampNeg) 7).bind fun k19 => gck (gIn q8.2 4) ((f_X14_with G a1 q4 (gS G (k19 + 1) q8.2.toNatClampNeg)).bind fun q23 => if q23 = (0 : Int64) then some (.inl (q8.1, q8.2 + 1)) else (recf G q23).bind fun q26 => gLet (gMax q8.1 q26) fun x28 => some (.inl (x28, q8.2 + 1)))))
def f_X14_ask : Nat → gP → Int64 → Option (Int32)
  | 0, _, _ => none
  | dd + 1, G, a1 => (f_X14_isSettled G a1).bind fun q1 => Option.bind (if q1 = 0 then (f_X14_look G a1).bind fun q31 => some q31 else some (-4 : Int32)) fun q4 => if 0 ≤ q4 then (gloop (f_X14_ask_b31 q4 G a1 (f_X14_ask dd)) gFu ((0 : Int32), (0 : Int32))).bind fun q9 => some (q9 + (1 : Int32)) else some (0 : Int32)
def f_X14_all (G : gP) : Int64 :=
  (gShlL (1 : Int64) (gS G 529 2)) - (1 : Int64)
def f_X15_said_b27  (q8 : gP × Int32) : Option ((gP × Int32) ⊕ (gP)) :=
  if (gS q8.1 32 1) ≤ q8.2 then some (.inr q8.1) else gck (gIn q8.2 8) (gck (gIn (((4 : Int32) * q8.2) + (gS q8.1 4 q8.2.toNatClampNeg)) 32) (gck (gIn (((4 : Int32) * q8.2) + (gS q8.1 4 q8.2.toNatClampNeg)) 32) (gLet (gS1 q8.1 10 (((4 : Int32) * q8.2) + (gS q8.1 4 q8.2.toNatClampNeg)).toNatClampNeg ((gS q8.1 10 (((4 : Int32) * q8.2) + (gS q8.1 4 q8.2.toNatClampNeg)).toNatClampNeg) + (1 : Int32))) fun G17 => some (.inl (G17, q8.2 + 1)))))
def f_X15_said (G : gP) (a1 : Int32) : Option (gP) :=
  if (gS G 531 1) < a1 then some G else (f_X12_isSound_531 G).bind fun q2 => if q2 = 0 then some G else gLet (gS1 G 531 2 ((gS G 531 2) + (1 : Int32))) fun G6 => (gloop (f_X15_said_b27) gFu (G6, (0 : Int32))).bind fun q9 => some q9
def f_X16_said (G : gP) (a1 : Int32) : Option (gP) :=
  if (gS G 532 2) ≤ a1 then some G else (f_X12_isSound_532 G).bind fun q2 => if q2 = 0 then some G else (f_X13_isSame G).bind fun q6 => if q6 = 0 then gLet (gS1 G 532 2 a1) fun G10 => some G10 else some G
def f_X17_said_b4 (G : gP) (q1 : Int32 × Int32) : Option ((Int32 × Int32) ⊕ (Int32)) :=
  if (gS G 32 1) ≤ q1.2 then some (.inr q1.1) else gck (gIn q1.2 8) (gck (gIn q1.2 8) (gLet (if (gS G 4 q1.2.toNatClampNeg) = (gS G 527 q1.2.toNatClampNeg) then (0 : Int32) else (1 : Int32)) fun q9 => gLet (q1.1 + q9) fun x12 => some (.inl (x12, q1.2 + 1))))
def f_X17_said (G : gP) (a1 : Int32) : Option (gP) :=
  (gloop (f_X17_said_b4 G) gFu ((0 : Int32), (0 : Int32))).bind fun q2 => if q2 = (1 : Int32) then (f_X12_isSound_533 G).bind fun q18 => if q18 = 0 then gLet (gS1 G 533 2 ((gS G 533 2) + (1 : Int32))) fun G24 => some G24 else gLet (gS1 G 533 2 ((gS G 533 2) + (0 : Int32))) fun G22 => some G22 else gLet (gS1 G 533 2 ((gS G 533 2) + (0 : Int32))) fun G16 => some G16
def f_X18_said_b12 (G : gP) (q5 : Int64 × Int32) : Option ((Int64 × Int32) ⊕ (Int64)) :=
  if (gS G 32 1) ≤ q5.2 then some (.inr q5.1) else gck (gIn q5.2 8) ((xRef (gR G 33 q5.2.toNatClampNeg) 7).bind fun k12 => gck (gIn q5.2 8) (gck (gIn (gS G 4 q5.2.toNatClampNeg) 4) (gLet (q5.1 * (((10 : Int32) - (gS G (k12 + 2) (gS G 4 q5.2.toNatClampNeg).toNatClampNeg)).toInt64)) fun x17 => some (.inl (x17, q5.2 + 1)))))
def f_X18_said (G : gP) (a1 : Int32) : Option (gP) :=
  (f_X12_isSound_534 G).bind fun q1 => if q1 = 0 then some G else (gloop (f_X18_said_b12 G) gFu ((1 : Int64), (0 : Int32))).bind fun q6 => gLet (gL1 G 534 3 ((gL G 534 3) + q6)) fun G19 => gck (gIn ((gS G19 0 5) - (1 : Int32)) 8) (if (gS G19 2 ((gS G19 0 5) - (1 : Int32)).toNatClampNeg) = (gS G19 534 1) then gLet (gL1 G19 534 2 ((gL G19 534 2) + q6)) fun G25 => some G25 else gLet (gL1 G19 534 2 ((gL G19 534 2) + (0 : Int64))) fun G23 => some G23)
def f_X0_finish (G : gP) (a1 : Nat) (a2 : Int32) (a3 : Nat) : Option (gP) :=
  if (f_X10_mayEnd G a1) = 0 then some G else gck (gIn (gS G a1 3) 8) (gLet (gS1 G 2 (gS G a1 3).toNatClampNeg ((gS G a1 2) + (gS G a1 1))) fun G4 => gLet (gS1 G4 0 5 ((gS G4 a1 3) + (1 : Int32))) fun G6 => if a3 = 526 then (f_X13_said G6 a2).bind fun q11 => some q11 else if a3 = 529 then (f_X14_said G6 a2).bind fun q16 => some q16 else if a3 = 531 then (f_X15_said G6 a2).bind fun q21 => some q21 else if a3 = 532 then (f_X16_said G6 a2).bind fun q26 => some q26 else if a3 = 533 then (f_X17_said G6 a2).bind fun q31 => some q31 else if a3 = 534 then (f_X18_said G6 a2).bind fun q36 => some q36 else none)
def f_X0_walk_b38 (k3 : Nat) (a1 : Int32) (recf : gP → Int32 → Int32 → Nat → Option (gP)) (a2 : Int32) (a3 : Nat) (q6 : gP × Int32) : Option ((gP × Int32) ⊕ (gP)) :=
  if (gS q6.1 k3 2) ≤ q6.2 then some (.inr q6.1) else gck (gIn a1 8) (gLet (gS1 q6.1 4 a1.toNatClampNeg q6.2) fun G13 => gck (gIn (a1 + (1 : Int32)) 9) (gck (gIn a1 9) ((f_X10_takeFrom G13 (19 + (a1 + (1 : Int32)).toNatClampNeg) (19 + a1.toNatClampNeg)).bind fun q19 => gck (gIn (a1 + (1 : Int32)) 9) (gck (gIn q6.2 4) ((f_X10_hear q19 (19 + (a1 + (1 : Int32)).toNatClampNeg) (gS q19 (k3 + 1) q6.2.toNatClampNeg)).bind fun q24 => if q24.2 = 0 then some (.inl (q24.1, q6.2 + 1)) else gck (gIn q6.2 4) ((recf q24.1 (a1 + (1 : Int32)) (a2 + (gS q24.1 (k3 + 2) q6.2.toNatClampNeg)) a3).bind fun q29 => some (.inl (q29, q6.2 + 1))))))))
def f_X0_walk : Nat → gP → Int32 → Int32 → Nat → Option (gP)
  | 0, _, _, _, _ => none
  | dd + 1, G, a1, a2, a3 => if a1 = (gS G 32 1) then gck (gIn a1 9) ((f_X0_finish G (19 + a1.toNatClampNeg) a2 a3).bind fun q33 => some q33) else gck (gIn a1 8) ((xRef (gR G 33 a1.toNatClampNeg) 7).bind fun k3 => (gloop (f_X0_walk_b38 k3 a1 (f_X0_walk dd) a2 a3) gFu (G, (0 : Int32))).bind fun q7 => some q7)
def f_X0_listen (G : gP) (a1 : Nat) : Option (gP) :=
  (f_X10_begin G 19).bind fun q1 => (f_X0_walk 9 q1 (0 : Int32) (0 : Int32) a1).bind fun q3 => some q3
def f_X0_type (G : gP) (a1 : Int32) : Option (gP × Int32) :=
  if (f_X0_isIn a1.toInt64 (32 : Int64) (126 : Int64)) = 0 then some (G, (-1 : Int32)) else if (gS G 0 11) = (120 : Int32) then some (G, (-3 : Int32)) else gck (gIn (gS G 0 11) 120) (gLet (gS1 G 9 (gS G 0 11).toNatClampNeg (vp_nar .char ((a1.toUInt32 % 65536).toInt32))) fun G5 => gLet (gS1 G5 0 11 ((gS G5 0 11) + (1 : Int32))) fun G7 => some (G7, gS G7 0 11))
def f_X0_nextLetter_b0  (q1 : gP) : Option ((gP) ⊕ (gP)) :=
  if (gS q1 0 11) ≤ (gS q1 0 12) then some (.inr q1) else gck (gIn (gS q1 0 12) 120) (if (gS q1 9 (gS q1 0 12).toNatClampNeg) = (32 : Int32) then gLet (gS1 q1 0 12 ((gS q1 0 12) + (1 : Int32))) fun G9 => some (.inl G9) else some (.inr q1))
def f_X0_nextLetter (G : gP) : Option (gP × Int32) :=
  (gloop (f_X0_nextLetter_b0) gFu G).bind fun q2 => if (gS q2 0 11) ≤ (gS q2 0 12) then some (q2, (-1 : Int32)) else gck (gIn (gS q2 0 12) 120) (some (q2, gS q2 9 (gS q2 0 12).toNatClampNeg))
def f_X0_faulty (G : gP) : Option (gP) :=
  (f_X0_nextLetter G).bind fun q1 => gLet (gS1 q1.1 8 6 (gS q1.1 0 12)) fun G3 => some G3
def f_X0_isSign (G : gP) (a1 : Int32) : Option (gP × Int32) :=
  (f_X0_nextLetter G).bind fun q1 => if q1.2 = a1 then gLet (gS1 q1.1 0 12 ((gS q1.1 0 12) + (1 : Int32))) fun G4 => some (G4, (1 : Int32)) else some (q1.1, (0 : Int32))
def f_X0_isFigure (G : gP) : Option (Int32) :=
  if (gS G 0 11) ≤ (gS G 0 12) then some (0 : Int32) else gck (gIn (gS G 0 12) 120) (if (f_X0_isIn ((gS G 9 (gS G 0 12).toNatClampNeg).toInt64) (48 : Int64) (57 : Int64)) = 0 then some (0 : Int32) else some (1 : Int32))
def f_X0_readNumber_b4  (q1 : gP × Int32 × Int32) : Option ((gP × Int32 × Int32) ⊕ (gP × Int32)) :=
  if (2 : Int32) ≤ q1.2.2 then some (.inr (q1.1, q1.2.1)) else (f_X0_isFigure q1.1).bind fun q7 => if q7 = 0 then some (.inr (q1.1, q1.2.1)) else gck (gIn (gS q1.1 0 12) 120) (gLet ((((10 : Int32) * q1.2.1) + (gS q1.1 9 (gS q1.1 0 12).toNatClampNeg)) - (48 : Int32)) fun x12 => gLet (gS1 q1.1 0 12 ((gS q1.1 0 12) + (1 : Int32))) fun G14 => some (.inl (G14, x12, q1.2.2 + 1)))
def f_X0_readNumber (G : gP) : Option (gP × Int32) :=
  (gloop (f_X0_readNumber_b4) gFu (G, (0 : Int32), (0 : Int32))).bind fun q2 => some (q2.1, q2.2)
def f_X0_wordBy (a0 : Int32) : Int32 :=
  if (f_X0_isIn a0.toInt64 (1 : Int64) (19 : Int64)) = 0 then if (gRem a0 (10 : Int32)) = 0 then if (f_X0_isIn a0.toInt64 (20 : Int64) (90 : Int64)) = 0 then (-4 : Int32) else (a0 / (10 : Int32)) + (18 : Int32) else (-4 : Int32) else a0
def f_X0_wordOf (a0 : Int32) : Int32 :=
  if a0 = (104 : Int32) then (28 : Int32) else if a0 = (116 : Int32) then (29 : Int32) else if a0 = (97 : Int32) then (30 : Int32) else if a0 = (115 : Int32) then (31 : Int32) else if a0 = (110 : Int32) then (0 : Int32) else (-4 : Int32)
def f_X0_readWord (G : gP) : Option (gP × Int32) :=
  (f_X0_nextLetter G).bind fun q1 => gLet (f_X0_wordOf q1.2) fun x3 => if x3 < 0 then (f_X0_isFigure q1.1).bind fun q6 => if q6 = 0 then some (q1.1, (-4 : Int32)) else (f_X0_readNumber q1.1).bind fun q10 => some (q10.1, f_X0_wordBy q10.2) else gLet (gS1 q1.1 0 12 ((gS q1.1 0 12) + (1 : Int32))) fun G12 => some (G12, x3)
def f_X0_tensWord (a0 : Int32) : Int32 :=
  if (20 : Int32) ≤ (gRem a0 (100 : Int32)) then (gRem (a0 / (10 : Int32)) (10 : Int32)) + (18 : Int32) else gRem a0 (100 : Int32)
def f_X0_unitWord (a0 : Int32) : Int32 :=
  if (20 : Int32) ≤ (gRem a0 (100 : Int32)) then gRem a0 (10 : Int32) else (0 : Int32)
def f_X0_countWords_b10 (G : gP) (q1 : Int32 × Int32) : Option ((Int32 × Int32) ⊕ (Int32)) :=
  if (9 : Int32) ≤ q1.2 then some (.inr q1.1) else gck (gIn q1.2 9) (gLet (gS G 538 q1.2.toNatClampNeg) fun x8 => gLet (if x8 ≤ 0 then (0 : Int32) else (1 : Int32)) fun q10 => gLet (q1.1 + q10) fun x13 => some (.inl (x13, q1.2 + 1)))
def f_X0_countWords (G : gP) : Option (Int32) :=
  (gloop (f_X0_countWords_b10 G) gFu ((0 : Int32), (0 : Int32))).bind fun q2 => some q2
def f_X0_slot (G : gP) (a1 : Int32) (a2 : Int32) (a3 : Int32) : Option (Int32) :=
  if (f_X0_isSlot G a1) = 0 then some (-1 : Int32) else if a2 < (-1 : Int32) then some (-1 : Int32) else if (f_X0_isIn a3.toInt64 (0 : Int64) (1 : Int64)) = 0 then some (-1 : Int32) else gck (gIn a1 8) ((xRef (gR G 33 a1.toNatClampNeg) 7).bind fun k7 => if 0 ≤ a2 then if a2 < (gS G k7 2) then if a3 = 0 then gck (gIn a2 4) (some (gS G (k7 + 1) a2.toNatClampNeg)) else gck (gIn a2 4) (some (gS G (k7 + 2) a2.toNatClampNeg)) else some (-4 : Int32) else some (gS G k7 2))
def f_X0_note (G : gP) : Option (gP) :=
  Option.bind (if (gS G 0 16) = (8 : Int32) then (xRef (gR G 11 0) 6).bind fun k13 => gck (gEl G 11 1 7 6) (gLet (gRc G 11 1 11 0 7) fun G18 => gLet (gR1 G18 11 7 (some k13)) fun G20 => gLet (gS1 G20 0 16 ((gS G20 0 16) - (1 : Int32))) fun G22 => some G22) else some G) fun q1 => gck (gIn (gS q1 0 16) 8) ((xRef (gR q1 11 (gS q1 0 16).toNatClampNeg) 6).bind fun k5 => (f_X6_takeFrom q1 k5 32).bind fun q8 => gLet (gS1 q8 0 16 ((gS q8 0 16) + (1 : Int32))) fun G10 => some G10)
def f_X0_hear (G : gP) (a1 : Int32) (a2 : Int32) : Option (gP × Int32) :=
  if (f_X0_isWord a1) = 0 then some (G, (-1 : Int32)) else if (f_X0_isCost a2) = 0 then some (G, (-1 : Int32)) else if (gS G 32 1) = (8 : Int32) then some (G, (-3 : Int32)) else (f_X0_note G).bind fun q6 => (f_X6_come q6 32).bind fun q8 => (f_X7_add q8.1 q8.2 a1 a2).bind fun q11 => some (q11, gS q11 32 1)
def f_X0_also (G : gP) (a1 : Int32) (a2 : Int32) (a3 : Int32) : Option (gP × Int32) :=
  if (f_X0_isSlot G a1) = 0 then some (G, (-1 : Int32)) else if (f_X0_isWord a2) = 0 then some (G, (-1 : Int32)) else if (f_X0_isCost a3) = 0 then some (G, (-1 : Int32)) else gck (gIn a1 8) ((xRef (gR G 33 a1.toNatClampNeg) 7).bind fun k8 => (f_X7_find G k8 a2).bind fun q11 => if q11 < 0 then if (gS G k8 2) = (4 : Int32) then some (G, (-3 : Int32)) else (f_X0_note G).bind fun q15 => (f_X7_add q15 k8 a2 a3).bind fun q17 => some (q17, gS q17 k8 2) else some (G, (-2 : Int32)))
def f_X0_lose (G : gP) (a1 : Int32) : Option (gP × Int32) :=
  if (f_X0_isSlot G a1) = 0 then some (G, (-1 : Int32)) else (f_X0_note G).bind fun q3 => (f_X6_lose q3 32 a1).bind fun q5 => some (q5, gS q5 32 1)
def f_X0_settle (G : gP) (a1 : Int32) (a2 : Int32) : Option (gP × Int32) :=
  if (f_X0_isSlot G a1) = 0 then some (G, (-1 : Int32)) else if (f_X0_isWord a2) = 0 then some (G, (-1 : Int32)) else gck (gIn a1 8) ((xRef (gR G 33 a1.toNatClampNeg) 7).bind fun k6 => (f_X7_find G k6 a2).bind fun q9 => if q9 < 0 then some (G, (-2 : Int32)) else if (gS G k6 2) = (1 : Int32) then some (G, (-2 : Int32)) else (f_X0_note G).bind fun q13 => gLet ((gS q13 k6 2) - (1 : Int32)) fun x15 => (f_X7_keepAlone q13 k6 q9).bind fun q17 => some (q17, x15))
def f_X0_check (G : gP) (a1 : Int32) : Option (gP × Int32) :=
  if (f_X0_isIn a1.toInt64 (0 : Int64) (4 : Int64)) = 0 then some (G, (-1 : Int32)) else gck (gIn (gS G 32 2) 5) (if (gS G 32 2) = 0 then if f_X1_kind_14 = a1 then some (G, (-2 : Int32)) else (f_X0_note G).bind fun q6 => gLet (gS1 q6 32 2 a1) fun G8 => some (G8, f_X1_kind_14) else if (gS G 32 2) = 1 then if f_X2_kind_15 = a1 then some (G, (-2 : Int32)) else (f_X0_note G).bind fun q12 => gLet (gS1 q12 32 2 a1) fun G14 => some (G14, f_X2_kind_15) else if (gS G 32 2) = 2 then if f_X3_kind_16 = a1 then some (G, (-2 : Int32)) else (f_X0_note G).bind fun q18 => gLet (gS1 q18 32 2 a1) fun G20 => some (G20, f_X3_kind_16) else if (gS G 32 2) = 3 then if f_X4_kind_17 = a1 then some (G, (-2 : Int32)) else (f_X0_note G).bind fun q24 => gLet (gS1 q24 32 2 a1) fun G26 => some (G26, f_X4_kind_17) else if (gS G 32 2) = 4 then if f_X5_kind_18 = a1 then some (G, (-2 : Int32)) else (f_X0_note G).bind fun q30 => gLet (gS1 q30 32 2 a1) fun G32 => some (G32, f_X5_kind_18) else none)
def f_X0_slack (G : gP) (a1 : Int32) : Option (gP × Int32) :=
  if (f_X0_isIn a1.toInt64 (0 : Int64) (20 : Int64)) = 0 then some (G, (-1 : Int32)) else gLet (gS G 32 3) fun x3 => if x3 = a1 then some (G, (-2 : Int32)) else (f_X0_note G).bind fun q6 => gLet (gS1 q6 32 3 a1) fun G8 => some (G8, x3)
def f_X0_drawOnce (G : gP) : Option (gP) :=
  gLet (gS1 G 32 4 ((((((gS G 32 4).toInt64) * (1103515245 : Int64)) + (12345 : Int64)) &&& (2147483647 : Int64)).toInt32)) fun G1 => gLet ((gS G1 32 4) / (65536 : Int32)) fun x3 => if (gS G1 32 1) = 0 then some G1 else gck (gNz (gS G1 32 1)) (gck (gIn (gRem x3 (gS G1 32 1)) 8) ((xRef (gR G1 33 (gRem x3 (gS G1 32 1)).toNatClampNeg) 7).bind fun k8 => gLet (gRem (x3 / (8 : Int32)) (32 : Int32)) fun x11 => if (4 : Int32) ≤ (gS G1 k8 2) then some G1 else (f_X7_find G1 k8 x11).bind fun q14 => if 0 ≤ q14 then some G1 else (f_X7_add G1 k8 x11 (gRem (x3 / (256 : Int32)) (10 : Int32))).bind fun q17 => some q17))
def f_X0_storm_b16 (a1 : Int32) (q3 : gP × Int32) : Option ((gP × Int32) ⊕ (gP)) :=
  if a1 ≤ q3.2 then some (.inr q3.1) else (f_X0_note q3.1).bind fun q9 => (f_X0_drawOnce q9).bind fun q11 => some (.inl (q11, q3.2 + 1))
def f_X0_storm_b39 (q4 : gP) (q13 : Int32 × Int32) : Option ((Int32 × Int32) ⊕ (Int32)) :=
  if (gS q4 32 1) ≤ q13.2 then some (.inr q13.1) else gck (gIn q13.2 8) ((xRef (gR q4 33 q13.2.toNatClampNeg) 7).bind fun k20 => gLet (q13.1 + (gS q4 k20 2)) fun x23 => some (.inl (x23, q13.2 + 1)))
def f_X0_storm (G : gP) (a1 : Int32) : Option (gP × Int32) :=
  if (f_X0_isIn a1.toInt64 (1 : Int64) (40 : Int64)) = 0 then some (G, (-1 : Int32)) else (gloop (f_X0_storm_b16 a1) gFu (G, (0 : Int32))).bind fun q4 => (gloop (f_X0_storm_b39 q4) gFu ((0 : Int32), (0 : Int32))).bind fun q14 => some (q4, q14)
def f_X0_undo (G : gP) : Option (gP × Int32) :=
  if (gS G 0 16) = 0 then some (G, (-4 : Int32)) else gLet (gS1 G 0 16 ((gS G 0 16) - (1 : Int32))) fun G2 => gck (gIn (gS G2 0 16) 8) ((xRef (gR G2 11 (gS G2 0 16).toNatClampNeg) 6).bind fun k5 => (f_X6_takeFrom G2 32 k5).bind fun q8 => some (q8, gS q8 0 16))
def f_X0_seed (G : gP) (a1 : Int32) : Option (gP × Int32) :=
  if 0 ≤ a1 then gLet (gS G 32 4) fun x2 => gLet (gS1 G 32 4 a1) fun G4 => some (G4, x2) else some (G, (-1 : Int32))
def f_X0_image_b13  (q3 : gP × Int32) : Option ((gP × Int32) ⊕ (gP)) :=
  if (gS q3.1 0 16) ≤ q3.2 then some (.inr q3.1) else gck (gIn q3.2 8) ((xRef (gR q3.1 12 q3.2.toNatClampNeg) 6).bind fun k10 => gck (gIn q3.2 8) ((xRef (gR q3.1 11 q3.2.toNatClampNeg) 6).bind fun k14 => (f_X6_takeFrom q3.1 k10 k14).bind fun q17 => some (.inl (q17, q3.2 + 1))))
def f_X0_image (G : gP) : Option (gP × Int32) :=
  (f_X6_takeFrom G 84 32).bind fun q1 => (gloop (f_X0_image_b13) gFu (q1, (0 : Int32))).bind fun q4 => gLet (gS1 q4 0 19 (gS q4 0 16)) fun G19 => gLet (gS1 G19 0 20 (1 : Int32)) fun G21 => some (G21, (1 : Int32))
def f_X0_restore_b23  (q4 : gP × Int32) : Option ((gP × Int32) ⊕ (gP)) :=
  if (gS q4.1 0 19) ≤ q4.2 then some (.inr q4.1) else gck (gIn q4.2 8) ((xRef (gR q4.1 11 q4.2.toNatClampNeg) 6).bind fun k11 => gck (gIn q4.2 8) ((xRef (gR q4.1 12 q4.2.toNatClampNeg) 6).bind fun k15 => (f_X6_takeFrom q4.1 k11 k15).bind fun q18 => some (.inl (q18, q4.2 + 1))))
def f_X0_restore (G : gP) : Option (gP × Int32) :=
  if (gS G 0 20) = 0 then some (G, (-4 : Int32)) else (f_X6_takeFrom G 32 84).bind fun q2 => (gloop (f_X0_restore_b23) gFu (q2, (0 : Int32))).bind fun q5 => gLet (gS1 q5 0 16 (gS q5 0 19)) fun G20 => some (G20, (1 : Int32))
def f_X0_isSheet (a0 : Int32) (a1 : Int32) : Int32 :=
  if (f_X0_isIn a0.toInt64 (0 : Int64) (3 : Int64)) = 0 then (0 : Int32) else if (f_X0_isIn a1.toInt64 (0 : Int64) (3 : Int64)) = 0 then (0 : Int32) else (1 : Int32)
def f_X9_lane (T : Nat → Nat × Nat) (G : gP) (k0 : Nat) : Option (Int32) :=
  gck (xRq T (gR G k0 0)) (if (xIs T (gR G k0 0) 103) = 0 then gck (xRq T (gR G k0 0)) (if (xIs T (gR G k0 0) 104) = 0 then gck (xRq T (gR G k0 0)) (if (xIs T (gR G k0 0) 100) = 0 then some (3 : Int32) else some (2 : Int32)) else some (1 : Int32)) else some (0 : Int32))
def f_X9_size (T : Nat → Nat × Nat) (G : gP) (k0 : Nat) : Option (Int32) :=
  gck (xRq T (gR G k0 0)) (if (xIs T (gR G k0 0) 103) = 0 then gck (xRq T (gR G k0 0)) (if (xIs T (gR G k0 0) 104) = 0 then gck (xRq T (gR G k0 0)) (if (xIs T (gR G k0 0) 100) = 0 then gck (xRq T (gR G k0 0)) ((xCa T (gR G k0 0) 101).bind fun n8 => some (nI (T n8).2)) else (xCa T (gR G k0 0) 100).bind fun n10 => some (nI (T n10).2)) else (xCa T (gR G k0 0) 104).bind fun n12 => some (nI (T n12).2)) else (xCa T (gR G k0 0) 103).bind fun n14 => some (nI (T n14).2))
def f_X9_get (T : Nat → Nat × Nat) (G : gP) (k0 : Nat) (a1 : Int32) : Option (Int64) :=
  gck (xRq T (gR G k0 0)) (if (xIs T (gR G k0 0) 103) = 0 then gck (xRq T (gR G k0 0)) (if (xIs T (gR G k0 0) 104) = 0 then gck (xRq T (gR G k0 0)) (if (xIs T (gR G k0 0) 100) = 0 then gck (xRq T (gR G k0 0)) ((xCa T (gR G k0 0) 101).bind fun n8 => gck (gIn a1 ((T n8).2)) (some (gL G n8 a1.toNatClampNeg))) else (xCa T (gR G k0 0) 100).bind fun n11 => gck (gIn a1 ((T n11).2)) (some ((gS G n11 a1.toNatClampNeg).toInt64))) else (xCa T (gR G k0 0) 104).bind fun n14 => gck (gIn a1 ((T n14).2)) (some ((gS G n14 a1.toNatClampNeg).toInt64))) else (xCa T (gR G k0 0) 103).bind fun n17 => gck (gIn a1 ((T n17).2)) (some ((gS G n17 a1.toNatClampNeg).toInt64)))
def f_X9_lay (T : Nat → Nat × Nat) (G : gP) (k0 : Nat) (a1 : Int32) (a2 : Int32) (a3 : Int64) : Option (gP) :=
  if a1 = 0 then gck (xRq T (gR G k0 0)) ((xCa T (gR G k0 0) 103).bind fun n3 => gck (gIn a2 ((T n3).2)) (gLet (gS1 G n3 a2.toNatClampNeg (vp_nar .byte a3.toInt32.toInt8.toInt32)) fun G6 => some G6)) else if a1 = 1 then gck (xRq T (gR G k0 0)) ((xCa T (gR G k0 0) 104).bind fun n10 => gck (gIn a2 ((T n10).2)) (gLet (gS1 G n10 a2.toNatClampNeg (vp_nar .short a3.toInt32.toInt16.toInt32)) fun G13 => some G13)) else if a1 = 2 then gck (xRq T (gR G k0 0)) ((xCa T (gR G k0 0) 100).bind fun n17 => gck (gIn a2 ((T n17).2)) (gLet (gS1 G n17 a2.toNatClampNeg a3.toInt32) fun G20 => some G20)) else gck (xRq T (gR G k0 0)) ((xCa T (gR G k0 0) 101).bind fun n23 => gck (gIn a2 ((T n23).2)) (gLet (gL1 G n23 a2.toNatClampNeg a3) fun G26 => some G26))
def f_X0_lacks (T : Nat → Nat × Nat) (G : gP) (a1 : Int32) (a2 : Int32) (a3 : Int32) (a4 : Int32) : Option (Int32) :=
  gck (gIn a1 4) (gck (xRq T (gR G (28 + a1.toNatClampNeg) 0)) (if gR G (28 + a1.toNatClampNeg) 0 = none then some (-11 : Int32) else (f_X9_lane T G (28 + a1.toNatClampNeg)).bind fun q6 => if q6 = a2 then if a3 < 0 then some (-13 : Int32) else (f_X9_size T G (28 + a1.toNatClampNeg)).bind fun q10 => if a3 ≤ (q10 - a4) then some (0 : Int32) else some (-13 : Int32) else some (-12 : Int32)))
def f_X0_drop (T : Nat → Nat × Nat) (G : gP) (a1 : Int32) : Option (gP × Int32) :=
  if (f_X0_isSheet a1 (0 : Int32)) = 0 then some (G, (-1 : Int32)) else gck (gIn a1 4) (gck (xRq T (gR G (28 + a1.toNatClampNeg) 0)) (if gR G (28 + a1.toNatClampNeg) 0 = none then some (G, (-11 : Int32)) else gck (gIn a1 4) ((f_X9_size T G (28 + a1.toNatClampNeg)).bind fun q10 => gck (gIn a1 4) (gLet (gR1 G (28 + a1.toNatClampNeg) 0 none) fun G14 => some (G14, q10)))))
def xPo (T : Nat → Nat × Nat) (ad : Nat → Nat) (I : List Nat) (u : (Nat → Nat) × List Nat) : Prop := xAg ad u.1 ∧ xOK T u.2 ∧ ∀ k, 539 ≤ k → (k ∈ u.2 ↔ k ∈ I)
def xI38 (I : List Nat) : List Nat := xI0 I ++ [538]
noncomputable def f_X6_say_b12  (q3 : gP × Int32) : Option ((gP × Int32) ⊕ (gP)) :=
  if (9 : Int32) ≤ q3.2 then some (.inr q3.1) else gck (gIn q3.2 9) (gLet (gS q3.1 538 q3.2.toNatClampNeg) fun x10 => if x10 ≤ 0 then some (.inl (q3.1, q3.2 + 1)) else (f_X6_come q3.1 32).bind fun q13 => gck (gDec (xRk q13.1)) (gLet (xMk7 q13.1 x10) fun G18 => (f_X7_takeFrom G18 q13.2 535).bind fun q21 => some (.inl (q21, q3.2 + 1))))
noncomputable def f_X6_say (G : gP)  : Option (gP) :=
  (f_X6_begin G 32).bind fun q1 => (gloop (f_X6_say_b12) 10 (q1, (0 : Int32))).bind fun q4 => some q4
noncomputable def f_X0_sayAll (G : gP)  : Option (gP × Int32) :=
  (f_X0_countWords G).bind fun q1 => if q1 ≤ (8 : Int32) then (f_X6_say G).bind fun q4 => gLet (gS1 q4 0 16 (0 : Int32)) fun G6 => some (G6, gS G6 32 1) else some (G, (-3 : Int32))
noncomputable def f_X0_say (G : gP) (a1 : Int32) : Option (gP × Int32) :=
  if (f_X0_isIn a1.toInt64 (1 : Int64) (999999 : Int64)) = 0 then some (G, (-1 : Int32)) else gLet (a1 / (1000 : Int32)) fun x3 => gLet (gRem a1 (1000 : Int32)) fun x5 => gck (gDec (xRk G)) (gLet (gSa G 538 (fun _ => 0)) fun G8 => gLet (gS1 G8 538 0 (x3 / (100 : Int32))) fun G10 => gLet (if (100 : Int32) ≤ x3 then (28 : Int32) else (0 : Int32)) fun q12 => gLet (gS1 G10 538 1 q12) fun G15 => gLet (gS1 G15 538 2 (f_X0_tensWord x3)) fun G17 => gLet (gS1 G17 538 3 (f_X0_unitWord x3)) fun G19 => gLet (if x3 = 0 then (0 : Int32) else (29 : Int32)) fun q21 => gLet (gS1 G19 538 4 q21) fun G24 => gLet (gS1 G24 538 5 (x5 / (100 : Int32))) fun G26 => gLet (if (100 : Int32) ≤ x5 then (28 : Int32) else (0 : Int32)) fun q28 => gLet (gS1 G26 538 6 q28) fun G31 => gLet (gS1 G31 538 7 (f_X0_tensWord x5)) fun G33 => gLet (gS1 G33 538 8 (f_X0_unitWord x5)) fun G35 => (f_X0_sayAll G35).bind fun q37 => some (q37.1, q37.2))
noncomputable def f_X0_first (G : gP)  : Option (gP) :=
  gck (gDec (xRk G)) (gLet (xMk13 G ) fun G3 => (f_X0_listen G3 526).bind fun q5 => some q5)
noncomputable def f_X0_countedOnes (G : gP) (a1 : Int32) : Option (gP) :=
  (f_X0_first G).bind fun q1 => Option.bind (if (f_X13_isAny q1) = 0 then gck (gDec (xRk q1)) (gLet (xMk14 q1 (-4 : Int32) (-4 : Int32)) fun G12 => some G12) else if 0 ≤ a1 then gck (gDec (xRk q1)) (gLet (xMk14 q1 ((gS q1 526 3) + (gS q1 32 3)) a1) fun G17 => some G17) else gck (gDec (xRk q1)) (gLet (xMk14 q1 ((gS q1 526 3) + (gS q1 32 3)) (-4 : Int32)) fun G21 => some G21)) fun q4 => (f_X0_listen q4 529).bind fun q7 => some q7
noncomputable def f_X0_questions (G : gP)  : Option (gP × Int32) :=
  (f_X0_countedOnes G (-4 : Int32)).bind fun q1 => if (gS q1 529 2) = 0 then some (q1, (-4 : Int32)) else if (gS q1 529 2) ≤ (60 : Int32) then (f_X14_ask 61 q1 (f_X14_all q1)).bind fun q5 => some (q1, q5) else some (q1, (-4 : Int32))
noncomputable def f_X0_lookAtMany_b2  (q1 : gP × Int32) : Option ((gP × Int32) ⊕ (gP)) :=
  if (32 : Int32) ≤ q1.2 then some (.inr q1.1) else gck (gIn q1.2 32) (gLet (gS1 q1.1 10 q1.2.toNatClampNeg (0 : Int32)) fun G8 => some (.inl (G8, q1.2 + 1)))
noncomputable def f_X0_lookAtMany_b81 (q20 : Int32 × Int32 × Int32) (q16 : gP) (q26 : Int32 × Int32) : Option ((Int32 × Int32) ⊕ (Int32)) :=
  if (4 : Int32) ≤ q26.2 then some (.inr q26.1) else gck (gIn (((4 : Int32) * q20.2.2) + q26.2) 32) (gLet (gMax q26.1 (gS q16 10 (((4 : Int32) * q20.2.2) + q26.2).toNatClampNeg)) fun x33 => some (.inl (x33, q26.2 + 1)))
noncomputable def f_X0_lookAtMany_b63 (q16 : gP) (q20 : Int32 × Int32 × Int32) : Option ((Int32 × Int32 × Int32) ⊕ (Int32)) :=
  if (gS q16 32 1) ≤ q20.2.2 then some (.inr q20.1) else (gloop (f_X0_lookAtMany_b81 q20 q16) gFu ((0 : Int32), (0 : Int32))).bind fun q27 => gLet (if q20.2.1 ≤ q27 then q20.1 else q20.2.2) fun q35 => gLet (gMin q20.2.1 q27) fun x38 => some (.inl (q35, x38, q20.2.2 + 1))
noncomputable def f_X0_lookAtMany (G : gP)  : Option (gP × Int32) :=
  (gloop (f_X0_lookAtMany_b2) gFu (G, (0 : Int32))).bind fun q2 => (f_X0_first q2).bind fun q11 => gck (gDec (xRk q11)) (gLet (xMk15 q11 ((gS q11 526 3) + (gS q11 32 3))) fun G14 => (f_X0_listen G14 531).bind fun q16 => gLet (gS q16 531 2) fun x18 => (gloop (f_X0_lookAtMany_b63 q16) gFu ((-4 : Int32), x18, (0 : Int32))).bind fun q21 => some (q16, q21))
noncomputable def f_X0_look (G : gP)  : Option (gP × Int32) :=
  (f_X0_countedOnes G (-4 : Int32)).bind fun q1 => if (60 : Int32) < (gS q1 529 2) then (f_X0_lookAtMany q1).bind fun q4 => some (q4.1, q4.2) else (f_X14_look q1 (f_X14_all q1)).bind fun q6 => some (q1, q6)
noncomputable def f_X0_nextCost (G : gP)  : Option (gP × Int32) :=
  (f_X0_first G).bind fun q2 => gck (gDec (xRk q2)) (gLet (xMk16 q2 ) fun G5 => (f_X0_listen G5 532).bind fun q7 => if (1000000 : Int32) ≤ (gS q7 532 2) then some (q7, (-4 : Int32)) else some (q7, gS q7 532 2))
noncomputable def f_X0_spoiltMany (G : gP)  : Option (gP × Int32) :=
  (f_X0_first G).bind fun q1 => if (f_X13_isAny q1) = 0 then some (q1, (-4 : Int32)) else gck (gDec (xRk q1)) (gLet (xMk17 q1 ) fun G7 => (f_X0_listen G7 533).bind fun q9 => some (q9, gS q9 533 2))
noncomputable def f_X0_count (G : gP) (a1 : Int32) : Option (gP × Int32) :=
  if a1 = 0 then some (G, gS G 32 1) else if a1 = 1 then some (G, gS G 32 2) else if a1 = 2 then some (G, gS G 32 3) else if a1 = 3 then (f_X0_first G).bind fun q5 => some (q5, gS q5 526 1) else if a1 = 4 then (f_X0_first G).bind fun q8 => some (q8, gS q8 526 2) else if a1 = 5 then (f_X0_countedOnes G (-4 : Int32)).bind fun q11 => some (q11, gS q11 529 2) else if a1 = 6 then (f_X0_look G).bind fun q14 => some (q14.1, q14.2) else if a1 = 7 then (f_X0_questions G).bind fun q17 => some (q17.1, q17.2) else if a1 = 8 then (f_X0_nextCost G).bind fun q20 => some (q20.1, q20.2) else if a1 = 9 then (f_X0_spoiltMany G).bind fun q23 => some (q23.1, q23.2) else if a1 = 10 then some (G, gS G 0 16) else some (G, (-1 : Int32))
noncomputable def f_X0_best (G : gP) (a1 : Int32) : Option (gP × Int32) :=
  if (-2 : Int32) ≤ a1 then (f_X0_first G).bind fun q2 => if (f_X13_isAny q2) = 0 then some (q2, (-4 : Int32)) else if a1 = (-2 : Int32) then some (q2, gS q2 526 6) else if a1 = (-1 : Int32) then some (q2, gS q2 526 3) else if (gS q2 526 6) ≤ a1 then some (q2, (-4 : Int32)) else gck (gIn a1 8) (some (q2, gS q2 528 a1.toNatClampNeg)) else some (G, (-1 : Int32))
noncomputable def f_X0_taken (G : gP) (a1 : Int32) : Option (gP × Int32) :=
  if (f_X0_isSlot G a1) = 0 then some (G, (-1 : Int32)) else (f_X0_first G).bind fun q3 => if (f_X13_isAny q3) = 0 then some (q3, (-4 : Int32)) else gck (gIn a1 8) ((xRef (gR q3 33 a1.toNatClampNeg) 7).bind fun k8 => gck (gIn a1 8) (gck (gIn (gS q3 527 a1.toNatClampNeg) 4) (some (q3, gS q3 (k8 + 1) (gS q3 527 a1.toNatClampNeg).toNatClampNeg))))
noncomputable def f_X0_open (G : gP) (a1 : Int32) : Option (gP × Int64) :=
  if (f_X0_isSlot G a1) = 0 then some (G, (-1 : Int64)) else (f_X0_countedOnes G (-4 : Int32)).bind fun q3 => gck (gIn a1 8) (some (q3, gL q3 530 a1.toNatClampNeg))
noncomputable def f_X0_counted (G : gP) (a1 : Int32) (a2 : Int32) : Option (gP × Int32) :=
  if a1 < 0 then some (G, (-1 : Int32)) else if (f_X0_isIn a2.toInt64 (0 : Int64) (1 : Int64)) = 0 then some (G, (-1 : Int32)) else (f_X0_countedOnes G a1).bind fun q4 => if a1 < (gS q4 529 2) then if a2 = 0 then some (q4, gS q4 529 5) else some (q4, gS q4 529 6) else some (q4, (-4 : Int32))
noncomputable def f_X0_likely_b68  (q16 : Int64 × Int64) : Option ((Int64 × Int64) ⊕ (Int64)) :=
  if q16.2 = (0 : Int64) then some (.inr q16.1) else gck (gNzL q16.2) (gLet (gRemL q16.1 q16.2) fun x23 => some (.inl (q16.2, x23)))
noncomputable def f_X0_likely (G : gP) (a1 : Int32) (a2 : Int32) : Option (gP × Int64) :=
  if (f_X0_isIn a1.toInt64 (0 : Int64) (999999 : Int64)) = 0 then some (G, (-1 : Int64)) else if (f_X0_isIn a2.toInt64 (0 : Int64) (1 : Int64)) = 0 then some (G, (-1 : Int64)) else gck (gDec (xRk G)) (gLet (xMk18 G a1) fun G7 => (f_X0_listen G7 534).bind fun q9 => if (gL q9 534 3) = (0 : Int64) then some (q9, (-4 : Int64)) else gLet (gL q9 534 2) fun x12 => gLet (gL q9 534 3) fun x14 => (gloop (f_X0_likely_b68) gFu (x12, x14)).bind fun q17 => if a2 = 0 then gck (gNzL q17) (some (q9, (gL q9 534 2) / q17)) else gck (gNzL q17) (some (q9, (gL q9 534 3) / q17)))
noncomputable def f_X0_isSo_b33 (a3 : Int32) (T : Nat → Nat × Nat) (q1 : gP) (a1 : Nat) (a2 : Int32) (q7 : Int32 × Int32) : Option ((Int32 × Int32) ⊕ (Int32)) :=
  if a3 ≤ q7.2 then some (.inr q7.1) else if q7.1 = 0 then some (.inr q7.1) else (f_X9_get T q1 a1 (a2 + q7.2)).bind fun q14 => gck (gIn q7.2 8) (if q14 = ((gS q1 528 q7.2.toNatClampNeg).toInt64) then some (.inl ((1 : Int32), q7.2 + 1)) else some (.inl ((0 : Int32), q7.2 + 1)))
noncomputable def f_X0_isSo (T : Nat → Nat × Nat) (G : gP) (a1 : Nat) (a2 : Int32) (a3 : Int32) : Option (gP × Int32) :=
  (f_X0_first G).bind fun q1 => gLet (if (f_X13_isAny q1) = 0 then (0 : Int32) else if (gS q1 526 6) = a3 then (1 : Int32) else (0 : Int32)) fun q4 => (gloop (f_X0_isSo_b33 a3 T q1 a1 a2) gFu (q4, (0 : Int32))).bind fun q8 => gck (gZ q8) (some (q1, q8))
noncomputable def f_X0_meant_b57 (a1 : Int32) (T : Nat → Nat × Nat) (a3 : Int32) (a4 : Int32) (q10 : gP × Int32 × Int32) : Option ((gP × Int32 × Int32) ⊕ (gP × Int32)) :=
  if (5 : Int32) ≤ q10.2.2 then some (.inr (q10.1, q10.2.1)) else gLet (gS1 q10.1 32 2 q10.2.2) fun G16 => gck (gIn a1 4) ((f_X0_isSo T G16 (28 + a1.toNatClampNeg) a3 a4).bind fun q20 => gLet (if q20.2 = 0 then (0 : Int32) else gShl (1 : Int32) q10.2.2) fun q23 => gLet (q10.2.1 ||| q23) fun x26 => some (.inl (q20.1, x26, q10.2.2 + 1)))
noncomputable def f_X0_meant (T : Nat → Nat × Nat) (G : gP) (a1 : Int32) (a2 : Int32) (a3 : Int32) (a4 : Int32) : Option (gP × Int32) :=
  if (f_X0_isSheet a1 a2) = 0 then some (G, (-1 : Int32)) else if (f_X0_isIn a4.toInt64 (1 : Int64) (6 : Int64)) = 0 then some (G, (-1 : Int32)) else (f_X0_lacks T G a1 a2 a3 a4).bind fun q5 => if 0 ≤ q5 then gLet (gS G 32 2) fun x8 => (gloop (f_X0_meant_b57 a1 T a3 a4) 6 (G, (0 : Int32), (0 : Int32))).bind fun q11 => gLet (gS1 q11.1 32 2 x8) fun G29 => some (G29, q11.2) else some (G, q5)
noncomputable def f_X0_film_b52 (a1 : Int32) (T : Nat → Nat × Nat) (a2 : Int32) (a3 : Int32) (q10 : gP × Int32) : Option ((gP × Int32) ⊕ (gP)) :=
  if (gS q10.1 526 6) ≤ q10.2 then some (.inr q10.1) else gck (gIn a1 4) (gck (gIn q10.2 8) ((f_X9_lay T q10.1 (28 + a1.toNatClampNeg) a2 (a3 + q10.2) ((gS q10.1 528 q10.2.toNatClampNeg).toInt64)).bind fun q19 => some (.inl (q19, q10.2 + 1))))
noncomputable def f_X0_film (T : Nat → Nat × Nat) (G : gP) (a1 : Int32) (a2 : Int32) (a3 : Int32) : Option (gP × Int32) :=
  if (f_X0_isSheet a1 a2) = 0 then some (G, (-1 : Int32)) else (f_X0_first G).bind fun q3 => if (f_X13_isAny q3) = 0 then some (q3, (-4 : Int32)) else (f_X0_lacks T q3 a1 a2 a3 (gS q3 526 6)).bind fun q7 => if 0 ≤ q7 then (gloop (f_X0_film_b52 a1 T a2 a3) gFu (q3, (0 : Int32))).bind fun q11 => some (q11, gS q11 526 6) else some (q3, q7)
def f_X0_readCandidate (G : gP) (a1 : Nat) : Option (gP × Bool) :=
  (f_X0_nextLetter G).bind fun q1 => gLet (gS q1.1 0 12) fun x3 => (f_X0_readWord q1.1).bind fun q5 => if q5.2 < 0 then gLet (gS1 q5.1 0 12 x3) fun G8 => (f_X0_faulty G8).bind fun q10 => some (q10, true) else (f_X7_find q5.1 a1 q5.2).bind fun q12 => if q12 < 0 then (f_X0_isSign q5.1 (58 : Int32)).bind fun q15 => if q15.2 = 0 then (f_X7_add q15.1 a1 q5.2 (0 : Int32)).bind fun q19 => some (q19, false) else (f_X0_nextLetter q15.1).bind fun q21 => gLet (q21.2 - (48 : Int32)) fun x23 => if (f_X0_isCost x23) = 0 then (f_X0_faulty q21.1).bind fun q31 => some (q31, true) else gLet (gS1 q21.1 0 12 ((gS q21.1 0 12) + (1 : Int32))) fun G27 => (f_X7_add G27 a1 q5.2 x23).bind fun q29 => some (q29, false) else gLet (gS1 q5.1 0 12 x3) fun G33 => (f_X0_faulty G33).bind fun q35 => some (q35, true)
def f_X0_readWords_b50 (q16 : gP × Nat) (q21 : gP) : Option ((gP) ⊕ ((gP) ⊕ (gP × Bool))) :=
  if (4 : Int32) ≤ (gS q21 q16.2 2) then some (.inr (.inl q21)) else (f_X0_isSign q21 (44 : Int32)).bind fun q27 => if q27.2 = 0 then some (.inr (.inl q27.1)) else (f_X0_readCandidate q27.1 q16.2).bind fun q31 => if q31.2 = true then some (.inr (.inr (q31.1, true))) else some (.inl q31.1)
def f_X0_readWords_b33  (q10 : gP × Int32) : Option ((gP × Int32) ⊕ ((gP) ⊕ (gP × Bool))) :=
  if q10.2 = 0 then some (.inr (.inl q10.1)) else (f_X6_come q10.1 58).bind fun q16 => (f_X0_readCandidate q16.1 q16.2).bind fun q19 => if q19.2 = true then some (.inr (.inr (q19.1, true))) else (gloop (f_X0_readWords_b50 q16) gFu q19.1).bind fun q22 => gsum q22 (fun zq22 => if (8 : Int32) ≤ (gS zq22 58 1) then some (.inl (zq22, (0 : Int32))) else (f_X0_isSign zq22 (59 : Int32)).bind fun q34 => if q34.2 = 0 then some (.inl (q34.1, (0 : Int32))) else some (.inl (q34.1, (1 : Int32)))) (fun r => some (.inr (.inr r)))
def f_X0_readWords (G : gP)  : Option (gP × Bool) :=
  gLet (gS1 G 0 12 (0 : Int32)) fun G1 => (f_X6_takeFrom G1 58 32).bind fun q3 => (f_X6_begin q3 58).bind fun q5 => (f_X0_nextLetter q5).bind fun q7 => if 0 ≤ q7.2 then (gloop (f_X0_readWords_b33) gFu (q7.1, (1 : Int32))).bind fun q11 => gsum q11 (fun zq11 => (f_X0_nextLetter zq11).bind fun q38 => if q38.2 < 0 then some (q38.1, false) else (f_X0_faulty q38.1).bind fun q41 => some (q41, true)) (fun r => some r) else some (q7.1, false)
def f_X0_words (G : gP)  : Option (gP × Int32) :=
  (f_X0_readWords G).bind fun q1 => if q1.2 = true then gLet (gS1 q1.1 0 11 (0 : Int32)) fun G3 => some (G3, (-20 : Int32) - (gS G3 8 6)) else gLet (gS1 q1.1 0 11 (0 : Int32)) fun G5 => (f_X6_takeFrom G5 32 58).bind fun q7 => gLet (gS1 q7 0 16 (0 : Int32)) fun G9 => some (G9, gS G9 32 1)
end
section
/-! a pure function answers, and of its answer P holds -/
def Ok {α : Type} (x : Option α) (P : α → Prop) : Prop := ∃ r, x = some r ∧ P r
theorem Ok.some {α : Type} {P : α → Prop} {r : α} (h : P r) : Ok (Option.some r) P := ⟨r, rfl, h⟩
theorem Ok.bind {α β : Type} {P : β → Prop} {x : Option α} {f : α → Option β} {Q : α → Prop} (h : Ok x Q) (k : ∀ a, Q a → Ok (f a) P) : Ok (x.bind f) P := by
  obtain ⟨r, e, hq⟩ := h
  subst e
  exact k r hq
theorem Ok.imp {α : Type} {P Q : α → Prop} {x : Option α} (h : Ok x Q) (k : ∀ a, Q a → P a) : Ok x P := by
  obtain ⟨r, e, hq⟩ := h
  exact ⟨r, e, k r hq⟩
theorem Ok.ck {α : Type} {P : α → Prop} {b : Bool} {x : Option α} (hb : b = true) (h : Ok x P) : Ok (gck b x) P := by
  subst hb
  exact h
theorem Ok.lt {α β : Type} {P : β → Prop} {v : α} {f : α → Option β} (h : Ok (f v) P) : Ok (gLet v f) P := h
theorem Ok.pos {α : Type} {P : α → Prop} {c : Prop} [Decidable c] {a b : Option α} (hc : c) (h : Ok a P) : Ok (if c then a else b) P := by rw [if_pos hc]; exact h
theorem Ok.neg {α : Type} {P : α → Prop} {c : Prop} [Decidable c] {a b : Option α} (hc : ¬ c) (h : Ok b P) : Ok (if c then a else b) P := by rw [if_neg hc]; exact h
theorem Ok.eq {α : Type} {P : α → Prop} {x : Option α} {r : α} (e : x = Option.some r) (h : P r) : Ok x P := ⟨r, e, h⟩
theorem Ok.ite {α : Type} {P : α → Prop} {c : Prop} [Decidable c] {a b : Option α} (h1 : c → Ok a P) (h2 : ¬ c → Ok b P) : Ok (if c then a else b) P := by
  by_cases hc : c
  · exact Ok.pos hc (h1 hc)
  · exact Ok.neg hc (h2 hc)
/-- a loop: J n s: so it is with n turns to go at most -/
theorem Ok.loop {σ ρ : Type} {f : σ → Option (σ ⊕ ρ)} {P : ρ → Prop} (J : Nat → σ → Prop) (step : ∀ n s, J n s → Ok (f s) (fun r => match r with | .inl s' => ∃ n', n' < n ∧ J n' s' | .inr x => P x)) :
    ∀ N n s, n < N → J n s → Ok (gloop f N s) P := by
  intro N
  induction N with
  | zero => intro n s h; omega
  | succ N ih =>
    intro n s hn hJ
    unfold gloop
    refine Ok.bind (step n s hJ) (fun r hr => ?_)
    cases r with
    | inl s' =>
      obtain ⟨n', h1, h2⟩ := hr
      exact ih n' s' (by omega) h2
    | inr x => exact Ok.some hr
/-- a loop that counts up: J i s ahead of turn i; N turns -/
theorem Ok.up {σ ρ : Type} {f : σ → Option (σ ⊕ ρ)} {P : ρ → Prop} (J : Nat → σ → Prop) (N : Nat) (hN : N < 2 ^ 40) (step : ∀ i s, i < N → J i s → Ok (f s) (fun r => match r with | .inl s' => J (i + 1) s' | .inr _ => False)) (last : ∀ s, J N s → Ok (f s) (fun r => match r with | .inl _ => False | .inr x => P x)) {s : σ} (h : J 0 s) : Ok (gloop f gFu s) P := by
  refine Ok.loop (fun n s => n ≤ N ∧ J (N - n) s) ?_ gFu N s (by unfold gFu; omega) ⟨Nat.le_refl N, by rw [Nat.sub_self]; exact h⟩
  rintro n s ⟨h1, h2⟩
  cases n with
  | zero =>
    refine (last s h2).imp ?_
    intro r hr
    cases r with
    | inl _ => exact hr.elim
    | inr x => exact hr
  | succ n =>
    refine (step (N - (n + 1)) s (by omega) h2).imp ?_
    intro r hr
    cases r with
    | inl s' =>
      have e : N - (n + 1) + 1 = N - n := by omega
      rw [e] at hr
      exact ⟨n, by omega, by omega, hr⟩
    | inr x => exact hr.elim
theorem nI_lit (n : Nat) : (OfNat.ofNat n : Int32) = nI n := rfl
theorem nI_add1 (n : Nat) : nI n + 1 = nI (n + 1) := nI_1 n
theorem gIn_nI {k n : Nat} (h : k < 2 ^ 31) : gIn (nI k) n = decide (k < n) := by
  unfold gIn
  have h1 := nI_pos h
  rw [nI_clamp h]
  by_cases h2 : k < n
  · rw [decide_eq_true h2]; exact decide_eq_true (by intro z; rcases z with z | z; exact h1 z; omega)
  · rw [decide_eq_false h2]; exact decide_eq_false (by intro z; exact z (Or.inr (by omega)))
theorem gRem_nI {a d : Nat} (ha : a < 2 ^ 31) (h0 : 0 < d) (hd : d < 2 ^ 31) : gRem (nI a) (nI d) = nI (a % d) := pk_rem ha h0 hd
theorem gNz_nI {a : Nat} (h0 : 0 < a) (ha : a < 2 ^ 31) : gNz (nI a) = true := decide_eq_true (nI_ne0 h0 ha)
theorem nI_le0 {a : Nat} (ha : a < 2 ^ 31) : nI a ≤ 0 ↔ a = 0 := by
  rw [← nI_0, nI_leI ha (by omega)]
  omega
theorem nI_eq0 {a : Nat} (ha : a < 2 ^ 31) : nI a = 0 ↔ a = 0 := by
  rw [← nI_0, nI_eq ha (by omega)]
theorem nI_lt0 {a : Nat} (ha : a < 2 ^ 31) : nI a < 0 ↔ False := ⟨fun h => nI_pos ha h, False.elim⟩
theorem nI_ge0 {a : Nat} (ha : a < 2 ^ 31) : 0 ≤ nI a ↔ True := ⟨fun _ => trivial, fun _ => nI_pos' ha⟩
/-- cells of ints that hold a list -/
def aL (G : gP) (k o : Nat) (l : List Nat) : Prop := ∀ j v, l[j]? = some v → gS G k (o + j) = nI v
/-- nothing has changed but where Z says -/
def gOff (Z : Nat → Nat → Bool) (G G' : gP) : Prop := (∀ k j, Z k j = false → gS G' k j = gS G k j ∧ gL G' k j = gL G k j ∧ gR G' k j = gR G k j)
theorem gOff.rf {Z : Nat → Nat → Bool} {G : gP} : gOff Z G G := fun _ _ _ => ⟨rfl, rfl, rfl⟩
theorem gOff.tr {Z : Nat → Nat → Bool} {G G1 G2 : gP} (h : gOff Z G G1) (h2 : gOff Z G1 G2) : gOff Z G G2 := fun k j hz => ⟨(h2 k j hz).1.trans (h k j hz).1, (h2 k j hz).2.1.trans (h k j hz).2.1, (h2 k j hz).2.2.trans (h k j hz).2.2⟩
theorem gOff.S1 {Z : Nat → Nat → Bool} {G G1 : gP} (h : gOff Z G G1) {k j : Nat} {v : Int32} (hz : Z k j = true) : gOff Z G (gS1 G1 k j v) := fun a i hz2 => by
  refine ⟨?_, ?_, ?_⟩
  · rw [gS_S1, if_neg (fun e => by rw [e.1, e.2, hz] at hz2; cases hz2)]; exact (h a i hz2).1
  · rw [gL_S1]; exact (h a i hz2).2.1
  · rw [gR_S1]; exact (h a i hz2).2.2
theorem gOff.L1 {Z : Nat → Nat → Bool} {G G1 : gP} (h : gOff Z G G1) {k j : Nat} {v : Int64} (hz : Z k j = true) : gOff Z G (gL1 G1 k j v) := fun a i hz2 => by
  refine ⟨?_, ?_, ?_⟩
  · rw [gS_L1]; exact (h a i hz2).1
  · rw [gL_L1, if_neg (fun e => by rw [e.1, e.2, hz] at hz2; cases hz2)]; exact (h a i hz2).2.1
  · rw [gR_L1]; exact (h a i hz2).2.2
theorem gOff.R1 {Z : Nat → Nat → Bool} {G G1 : gP} (h : gOff Z G G1) {k j : Nat} {v : Option Nat} (hz : Z k j = true) : gOff Z G (gR1 G1 k j v) := fun a i hz2 => by
  refine ⟨?_, ?_, ?_⟩
  · rw [gS_R1]; exact (h a i hz2).1
  · rw [gL_R1]; exact (h a i hz2).2.1
  · rw [gR_R1, if_neg (fun e => by rw [e.1, e.2, hz] at hz2; cases hz2)]; exact (h a i hz2).2.2
theorem gOff.w {Z Z' : Nat → Nat → Bool} {G G' : gP} (h : gOff Z G G') (hz : ∀ k j, Z' k j = false → Z k j = false) : gOff Z' G G' := fun k j q => h k j (hz k j q)
/-- an int goes to the end of a list's cells -/
theorem aL.push {G : gP} {k o : Nat} {l : List Nat} {v : Nat} (h : aL G k o l) : aL (gS1 G k (o + l.length) (nI v)) k o (l ++ [v]) := fun j w hj => by
  rw [gS_S1]
  by_cases e : j = l.length
  · subst e
    rw [if_pos ⟨rfl, rfl⟩]
    rw [List.getElem?_append_right (Nat.le_refl _), Nat.sub_self] at hj
    cases hj
    rfl
  · rw [if_neg (fun z => e (by omega))]
    refine h j w ?_
    by_cases e2 : j < l.length
    · rw [List.getElem?_append_left e2] at hj; exact hj
    · exfalso
      rw [List.getElem?_eq_none (by rw [List.length_append]; simp; omega)] at hj
      cases hj
theorem aL.nil {G : gP} {k o : Nat} : aL G k o [] := fun j v h => by cases h
theorem aL.S1 {G : gP} {k o a i : Nat} {l : List Nat} {v : Int32} (h : aL G k o l) (hn : a ≠ k ∨ i < o ∨ o + l.length ≤ i) : aL (gS1 G a i v) k o l := fun j w hj => by
  have hl : j < l.length := (List.getElem?_eq_some_iff.mp hj).1
  rw [gS_S1, if_neg (fun z => by rcases hn with h | h | h; exact h z.1.symm; omega; omega)]
  exact h j w hj
end
section
/-! words: the ear's automaton and the grammar are the same -/
def wo (w : Nat) : Nat := if w < 20 then w else if w < 28 then 10 * w - 180 else 0
abbrev Er : Type := Nat × Nat × Nat × Bool × List Nat
def eEnd (e : Er) : Bool := e.1 != 0 && e.1 != 5
def eU (w : Nat) : Bool := decide (1 ≤ w) && decide (w ≤ 9)
def eStep (e : Er) (w : Nat) : Option Er :=
  if w = 0 then some e
  else if w = 28 then (if e.1 = 1 then some ⟨4, e.2.1 * 100, e.2.2.1, e.2.2.2.1, e.2.2.2.2⟩ else none)
  else if w = 29 then (if eEnd e && !e.2.2.2.1 then some ⟨6, 0, e.2.1 * 1000, true, e.2.2.2.2⟩ else none)
  else if w = 30 then (if e.1 = 4 ∨ e.1 = 6 then some ⟨5, e.2.1, e.2.2.1, e.2.2.2.1, e.2.2.2.2⟩ else none)
  else if w = 31 then (if eEnd e then some ⟨0, 0, 0, false, e.2.2.2.2 ++ [e.2.2.1 + e.2.1]⟩ else none)
  else (if e.1 = 0 ∨ e.1 = 6 ∨ e.1 = 4 ∨ e.1 = 5 ∨ (e.1 = 2 ∧ eU w = true) then some ⟨if (e.1 = 0 ∨ e.1 = 6) ∧ eU w = true then 1 else if 20 ≤ w then 2 else 3, e.2.1 + wo w, e.2.2.1, e.2.2.2.1, e.2.2.2.2⟩ else none)
def eFin (e : Er) : Option (List Nat) := if eEnd e then some (e.2.2.2.2 ++ [e.2.2.1 + e.2.1]) else none
def eRun : Er → List Nat → Option (List Nat)
  | e, [] => eFin e
  | e, w :: t => (eStep e w).bind fun e' => eRun e' t
def e0 : Er := ⟨0, 0, 0, false, []⟩
/-- the grammar -/
def mTens (v : Nat) (ws : List Nat) : Nat × List Nat := match ws with
  | [] => (v, [])
  | u :: t => if eU u then (v + u, t) else (v, u :: t)
def mLow (ws : List Nat) : Nat × List Nat := match ws with
  | [] => (0, [])
  | w :: t => if w = 0 ∨ 28 ≤ w then (0, w :: t) else if w < 20 then (w, t) else mTens (wo w) t
def mMore (ws : List Nat) : Option (Nat × List Nat) := match ws with
  | [] => some (0, [])
  | w :: t => if w = 30 then (if (mLow t).1 = 0 then none else some (mLow t)) else some (mLow (w :: t))
def mSmall (ws : List Nat) : Option (Nat × List Nat) := match ws with
  | [] => some (0, [])
  | [w] => some (mLow [w])
  | w :: u :: t => if eU w ∧ u = 28 then (mMore t).map (fun q => (100 * w + q.1, q.2)) else some (mLow (w :: u :: t))
def mRest (ws : List Nat) : Option (Nat × List Nat) := match ws with
  | [] => mSmall []
  | w :: t => if w = 30 then mMore (w :: t) else mSmall (w :: t)
def mNumber (ws : List Nat) : Option (Nat × List Nat) := (mSmall ws).bind fun q =>
  if q.1 = 0 then some (0, q.2) else match q.2 with
  | [] => some q
  | w :: t => if w = 29 then (mRest t).map (fun z => (1000 * q.1 + z.1, z.2)) else some q
def mSaid : Nat → List Nat → List Nat → Option (List Nat)
  | 0, _, _ => none
  | n + 1, ns, ws => (mNumber ws).bind fun q => if q.1 = 0 then none else match q.2 with
    | [] => some (ns ++ [q.1])
    | w :: t => if w = 31 then mSaid n (ns ++ [q.1]) t else none
theorem mTens_c (v u : Nat) (t : List Nat) : mTens v (u :: t) = if eU u then (v + u, t) else (v, u :: t) := rfl
theorem mLow_a (w : Nat) (t : List Nat) (h0 : 0 < w) (h : w < 20) : mLow (w :: t) = (w, t) := by
  show (if w = 0 ∨ 28 ≤ w then (0, w :: t) else if w < 20 then (w, t) else mTens (wo w) t) = _
  rw [if_neg (by omega), if_pos h]
theorem mLow_b (w : Nat) (t : List Nat) (h0 : ¬ w < 20) (h : w < 28) : mLow (w :: t) = mTens (wo w) t := by
  show (if w = 0 ∨ 28 ≤ w then (0, w :: t) else if w < 20 then (w, t) else mTens (wo w) t) = _
  rw [if_neg (by omega), if_neg h0]
theorem mLow_c (w : Nat) (t : List Nat) (h : 28 ≤ w) : mLow (w :: t) = (0, w :: t) := by
  show (if w = 0 ∨ 28 ≤ w then (0, w :: t) else if w < 20 then (w, t) else mTens (wo w) t) = _
  rw [if_pos (by omega)]
theorem mSmall_1 (w : Nat) : mSmall [w] = some (mLow [w]) := rfl
theorem mSmall_2 (w u : Nat) (t : List Nat) : mSmall (w :: u :: t) = if eU w ∧ u = 28 then (mMore t).map (fun q => (100 * w + q.1, q.2)) else some (mLow (w :: u :: t)) := rfl
/-- behind a small number that is over -/
def eF (v g : Nat) (th : Bool) (ns : List Nat) (ws : List Nat) : Option (List Nat) := match ws with
  | [] => some (ns ++ [g + v])
  | w :: t => if w = 31 then eRun ⟨0, 0, 0, false, ns ++ [g + v]⟩ t else if w = 29 then (if th then none else eRun ⟨6, 0, v * 1000, true, ns⟩ t) else none
def wOk (ws : List Nat) : Prop := ∀ w ∈ ws, 0 < w ∧ w < 32
theorem wOk.tl {w : Nat} {t : List Nat} (h : wOk (w :: t)) : wOk t := fun x hx => h x (List.mem_cons_of_mem _ hx)
theorem eU_iff (w : Nat) : eU w = true ↔ 1 ≤ w ∧ w ≤ 9 := by simp [eU]
theorem run3 (v g : Nat) (th : Bool) (ns ws : List Nat) (h : wOk ws) : eRun ⟨3, v, g, th, ns⟩ ws = eF v g th ns ws := by
  cases ws with
  | nil => rfl
  | cons w t =>
    have hw := h w (by simp)
    unfold eRun eF eStep eEnd
    by_cases h1 : w = 31
    · subst h1; rfl
    · by_cases h2 : w = 29
      · subst h2; cases th <;> rfl
      · have h0 : w ≠ 0 := by omega
        by_cases h3 : w = 28
        · subst h3; rfl
        · by_cases h4 : w = 30
          · subst h4; rfl
          · simp [h0, h1, h2, h3, h4]
theorem run2 (v g : Nat) (th : Bool) (ns ws : List Nat) (h : wOk ws) : eRun ⟨2, v, g, th, ns⟩ ws = eF (mTens v ws).1 g th ns (mTens v ws).2 := by
  cases ws with
  | nil => rfl
  | cons w t =>
    have hw := h w (by simp)
    have h0 : w ≠ 0 := by omega
    by_cases hu : eU w = true
    · have := (eU_iff w).mp hu
      have e1 : wo w = w := by unfold wo; rw [if_pos (by omega)]
      unfold mTens
      simp only [hu, if_true]
      rw [← run3 _ _ _ _ _ h.tl]
      rw [eRun, eStep]
      rw [if_neg (by omega), if_neg (by omega), if_neg (by omega), if_neg (by omega), if_neg (by omega)]
      rw [if_pos (by simp [hu]), if_neg (by simp), if_neg (by omega), e1]
      rfl
    · rw [mTens_c, if_neg hu]
      unfold eRun eF eStep eEnd
      by_cases h1 : w = 31
      · subst h1; rfl
      · by_cases h2 : w = 29
        · subst h2; cases th <;> rfl
        · by_cases h3 : w = 28
          · subst h3; rfl
          · by_cases h4 : w = 30
            · subst h4; rfl
            · simp [h0, h1, h2, h3, h4, hu]
theorem run1 (v g : Nat) (th : Bool) (ns ws : List Nat) (h : wOk ws) : eRun ⟨1, v, g, th, ns⟩ ws = (if ws.head? = some 28 then eRun ⟨4, v * 100, g, th, ns⟩ ws.tail else eF v g th ns ws) := by
  cases ws with
  | nil => rfl
  | cons w t =>
    have hw := h w (by simp)
    have h0 : w ≠ 0 := by omega
    by_cases h3 : w = 28
    · subst h3; rfl
    · rw [if_neg (by simp [h3])]
      unfold eRun eF eStep eEnd
      by_cases h1 : w = 31
      · subst h1; rfl
      · by_cases h2 : w = 29
        · subst h2; cases th <;> rfl
        · by_cases h4 : w = 30
          · subst h4; rfl
          · simp [h0, h1, h2, h3, h4]
/-- a low word behind hundreds or an and -/
theorem stepL (e : Er) (w : Nat) (t : List Nat) (h : wOk (w :: t)) (hw : w < 28) (hp : e.1 = 4 ∨ e.1 = 5) : eRun e (w :: t) = eF (e.2.1 + (mLow (w :: t)).1) e.2.2.1 e.2.2.2.1 e.2.2.2.2 (mLow (w :: t)).2 := by
  have hw0 := h w (by simp)
  rw [eRun, eStep]
  rw [if_neg (by omega), if_neg (by omega), if_neg (by omega), if_neg (by omega), if_neg (by omega), if_pos (by omega)]
  have e5 : ¬ ((e.1 = 0 ∨ e.1 = 6) ∧ eU w = true) := by rintro ⟨z, -⟩; omega
  rw [if_neg e5]
  simp only [Option.bind_some]
  by_cases h2 : w < 20
  · rw [if_neg (show ¬ 20 ≤ w by omega), mLow_a w t hw0.1 h2, run3 _ _ _ _ _ h.tl]
    have e1 : wo w = w := by unfold wo; rw [if_pos h2]
    rw [e1]
  · rw [if_pos (show 20 ≤ w by omega), mLow_b w t h2 hw, run2 _ _ _ _ _ h.tl]
    have e2 : ∀ x, mTens (e.2.1 + x) t = (e.2.1 + (mTens x t).1, (mTens x t).2) := fun x => by
      unfold mTens
      cases t with
      | nil => rfl
      | cons u t' => by_cases hu : eU u = true <;> simp [hu, Nat.add_assoc]
    rw [e2]
theorem run5 (v g : Nat) (th : Bool) (ns ws : List Nat) (h : wOk ws) : eRun ⟨5, v, g, th, ns⟩ ws = (if (mLow ws).1 = 0 then none else eF (v + (mLow ws).1) g th ns (mLow ws).2) := by
  cases ws with
  | nil => rfl
  | cons w t =>
    have hw := h w (by simp)
    by_cases hl : w < 28
    · rw [stepL _ w t h hl (Or.inr rfl), if_neg ?_]
      unfold mLow
      simp only
      rw [if_neg (by omega)]
      by_cases h2 : w < 20
      · rw [if_pos h2]; simp only; omega
      · rw [if_neg h2]
        have : 0 < wo w := by unfold wo; rw [if_neg h2, if_pos hl]; omega
        unfold mTens
        cases t with
        | nil => simp only; omega
        | cons u t' => by_cases hu : eU u = true <;> simp [hu] <;> omega
    · have e1 := mLow_c w t (by omega)
      rw [e1, if_pos rfl]
      have hc : w = 28 ∨ w = 29 ∨ w = 30 ∨ w = 31 := by omega
      rcases hc with rfl | rfl | rfl | rfl <;> rfl
theorem run4 (v g : Nat) (th : Bool) (ns ws : List Nat) (h : wOk ws) : eRun ⟨4, v, g, th, ns⟩ ws = (mMore ws).bind fun q => eF (v + q.1) g th ns q.2 := by
  cases ws with
  | nil => rfl
  | cons w t =>
    have hw := h w (by simp)
    unfold mMore
    simp only
    by_cases h3 : w = 30
    · subst h3
      rw [if_pos rfl]
      have e1 : eRun ⟨4, v, g, th, ns⟩ (30 :: t) = eRun ⟨5, v, g, th, ns⟩ t := rfl
      rw [e1, run5 _ _ _ _ _ h.tl]
      by_cases h0 : (mLow t).1 = 0
      · rw [if_pos h0, if_pos h0]; rfl
      · rw [if_neg h0, if_neg h0]; rfl
    · rw [if_neg h3]
      by_cases hl : w < 28
      · rw [stepL _ w t h hl (Or.inl rfl)]; rfl
      · have e1 : mLow (w :: t) = (0, w :: t) := by unfold mLow; simp only; rw [if_pos (by omega)]
        rw [e1]
        have hc : w = 28 ∨ w = 29 ∨ w = 31 := by omega
        rcases hc with rfl | rfl | rfl
        · rfl
        · cases th <;> rfl
        · rfl
/-- a small number from its first word on -/
theorem runB (e : Er) (w : Nat) (t : List Nat) (h : wOk (w :: t)) (hw : w < 28) (hs : e.2.1 = 0) (hp : e.1 = 0 ∨ e.1 = 6) : eRun e (w :: t) = (mSmall (w :: t)).bind fun q => eF q.1 e.2.2.1 e.2.2.2.1 e.2.2.2.2 q.2 := by
  have hw0 := h w (by simp)
  rw [eRun, eStep]
  rw [if_neg (by omega), if_neg (by omega), if_neg (by omega), if_neg (by omega), if_neg (by omega), if_pos (by omega), hs, Nat.zero_add]
  simp only [Option.bind_some]
  by_cases hu : eU w = true
  · have hu2 := (eU_iff w).mp hu
    have e1 : wo w = w := by unfold wo; rw [if_pos (by omega)]
    rw [if_pos ⟨hp, hu⟩, run1 _ _ _ _ _ h.tl, e1]
    have e3 : mLow (w :: t) = (w, t) := by unfold mLow; simp only; rw [if_neg (by omega), if_pos (by omega)]
    cases t with
    | nil =>
      rw [if_neg (by simp), mSmall_1, e3]; rfl
    | cons u t' =>
      rw [mSmall_2]
      simp only [List.head?_cons, List.tail_cons, Option.some.injEq]
      by_cases h8 : u = 28
      · rw [if_pos h8, if_pos ⟨hu, h8⟩, run4 _ _ _ _ _ h.tl.tl, Nat.mul_comm]
        cases mMore t' <;> rfl
      · rw [if_neg h8, if_neg (fun z => h8 z.2), e3]; rfl
  · rw [if_neg (fun z => hu z.2)]
    have e3 : mSmall (w :: t) = some (mLow (w :: t)) := by
      cases t with
      | nil => rfl
      | cons u t' => unfold mSmall; simp only; rw [if_neg (fun z => hu z.1)]
    rw [e3]
    simp only [Option.bind_some]
    have hn : ¬ (1 ≤ w ∧ w ≤ 9) := fun z => hu ((eU_iff w).mpr z)
    by_cases h2 : w < 20
    · have e1 : wo w = w := by unfold wo; rw [if_pos h2]
      rw [if_neg (show ¬ 20 ≤ w by omega), mLow_a w t hw0.1 h2, run3 _ _ _ _ _ h.tl, e1]
    · rw [if_pos (show 20 ≤ w by omega), mLow_b w t h2 hw, run2 _ _ _ _ _ h.tl]
theorem mSmall_no (w : Nat) (t : List Nat) (hw : 28 ≤ w) : mSmall (w :: t) = some (0, w :: t) := by
  have e1 := mLow_c w t hw
  cases t with
  | nil => rw [mSmall_1, e1]
  | cons u t' =>
    rw [mSmall_2]
    rw [if_neg (fun z => by have := (eU_iff w).mp z.1; omega), e1]
theorem run6 (g : Nat) (ns ws : List Nat) (h : wOk ws) : eRun ⟨6, 0, g, true, ns⟩ ws = (mRest ws).bind fun q => eF q.1 g true ns q.2 := by
  cases ws with
  | nil => rfl
  | cons w t =>
    have hw := h w (by simp)
    unfold mRest
    simp only
    by_cases h3 : w = 30
    · subst h3
      rw [if_pos rfl]
      have e1 : eRun ⟨6, 0, g, true, ns⟩ (30 :: t) = eRun ⟨5, 0, g, true, ns⟩ t := rfl
      have e2 : eRun ⟨4, 0, g, true, ns⟩ (30 :: t) = eRun ⟨5, 0, g, true, ns⟩ t := rfl
      rw [e1, ← e2, run4 _ _ _ _ _ h]
      simp only [Nat.zero_add]
    · rw [if_neg h3]
      by_cases hl : w < 28
      · rw [runB _ w t h hl rfl (Or.inr rfl)]
      · rw [mSmall_no w t (by omega)]
        have hc : w = 28 ∨ w = 29 ∨ w = 31 := by omega
        rcases hc with rfl | rfl | rfl <;> rfl
theorem run0 (ns ws : List Nat) (h : wOk ws) : eRun ⟨0, 0, 0, false, ns⟩ ws = (mSmall ws).bind fun q => if q.1 = 0 then none else eF q.1 0 false ns q.2 := by
  cases ws with
  | nil => rfl
  | cons w t =>
    have hw := h w (by simp)
    by_cases hl : w < 28
    · rw [runB _ w t h hl rfl (Or.inl rfl)]
      have hp : ∀ q, mSmall (w :: t) = some q → ¬ q.1 = 0 := by
        intro q hq
        have hL : 0 < (mLow (w :: t)).1 := by
          unfold mLow
          simp only
          rw [if_neg (by omega)]
          by_cases h2 : w < 20
          · rw [if_pos h2]; simp only; omega
          · rw [if_neg h2]
            have : 0 < wo w := by unfold wo; rw [if_neg h2, if_pos hl]; omega
            unfold mTens
            cases t with
            | nil => exact this
            | cons u t' => by_cases hu : eU u = true <;> simp [hu] <;> omega
        cases t with
        | nil => unfold mSmall at hq; cases hq; omega
        | cons u t' =>
          unfold mSmall at hq
          simp only at hq
          by_cases h8 : eU w ∧ u = 28
          · rw [if_pos h8] at hq
            cases hm : mMore t' with
            | none => rw [hm] at hq; cases hq
            | some z => rw [hm] at hq; cases hq; simp only; omega
          · rw [if_neg h8] at hq; cases hq; omega
      cases hq : mSmall (w :: t) with
      | none => rfl
      | some q => simp only [Option.bind_some]; rw [if_neg (hp q hq)]
    · rw [mSmall_no w t (by omega)]
      have hc : w = 28 ∨ w = 29 ∨ w = 30 ∨ w = 31 := by omega
      rcases hc with rfl | rfl | rfl | rfl <;> rfl
theorem mTens_s (v : Nat) (ws : List Nat) : (mTens v ws).2 <:+ ws := by
  cases ws with
  | nil => exact List.suffix_refl _
  | cons u t => rw [mTens_c]; by_cases h : eU u = true
                · rw [if_pos h]; exact List.suffix_cons u t
                · rw [if_neg h]; exact List.suffix_refl _
theorem mLow_s (ws : List Nat) : (mLow ws).2 <:+ ws := by
  cases ws with
  | nil => exact List.suffix_refl _
  | cons w t =>
    show ((if w = 0 ∨ 28 ≤ w then (0, w :: t) else if w < 20 then (w, t) else mTens (wo w) t).2) <:+ _
    by_cases h : w = 0 ∨ 28 ≤ w
    · rw [if_pos h]; exact List.suffix_refl _
    · rw [if_neg h]
      by_cases h2 : w < 20
      · rw [if_pos h2]; exact List.suffix_cons w t
      · rw [if_neg h2]; exact (mTens_s _ t).trans (List.suffix_cons w t)
theorem mMore_s {ws : List Nat} {q : Nat × List Nat} (h : mMore ws = some q) : q.2 <:+ ws := by
  cases ws with
  | nil => cases h; exact List.suffix_refl _
  | cons w t =>
    have h : (if w = 30 then (if (mLow t).1 = 0 then none else some (mLow t)) else some (mLow (w :: t))) = some q := h
    by_cases h3 : w = 30
    · rw [if_pos h3] at h
      by_cases h4 : (mLow t).1 = 0
      · rw [if_pos h4] at h; cases h
      · rw [if_neg h4] at h; cases h; exact (mLow_s t).trans (List.suffix_cons w t)
    · rw [if_neg h3] at h; cases h; exact mLow_s _
theorem mSmall_s {ws : List Nat} {q : Nat × List Nat} (h : mSmall ws = some q) : q.2 <:+ ws := by
  match ws, h with
  | [], h => cases h; exact List.suffix_refl _
  | [w], h => rw [mSmall_1] at h; cases h; exact mLow_s _
  | w :: u :: t, h =>
    rw [mSmall_2] at h
    by_cases h3 : eU w ∧ u = 28
    · rw [if_pos h3] at h
      cases hm : mMore t with
      | none => rw [hm] at h; cases h
      | some z =>
        rw [hm] at h
        cases h
        exact (mMore_s hm).trans ((List.suffix_cons u t).trans (List.suffix_cons w _))
    · rw [if_neg h3] at h; cases h; exact mLow_s _
theorem mRest_s {ws : List Nat} {q : Nat × List Nat} (h : mRest ws = some q) : q.2 <:+ ws := by
  cases ws with
  | nil => exact mSmall_s h
  | cons w t =>
    have h : (if w = 30 then mMore (w :: t) else mSmall (w :: t)) = some q := h
    by_cases h3 : w = 30
    · rw [if_pos h3] at h; exact mMore_s h
    · rw [if_neg h3] at h; exact mSmall_s h
theorem wOk.sx {a b : List Nat} (h : wOk b) (hs : a <:+ b) : wOk a := fun w hw => h w (hs.subset hw)
/-- the two are the same -/
theorem said_run : ∀ n ns ws, wOk ws → ws.length < n → mSaid n ns ws = eRun ⟨0, 0, 0, false, ns⟩ ws := by
  intro n
  induction n with
  | zero => intro ns ws h hn; omega
  | succ n ih =>
    intro ns ws h hn
    rw [run0 _ _ h, mSaid, mNumber]
    cases hq : mSmall ws with
    | none => rfl
    | some q =>
      simp only [Option.bind_some]
      have hs := mSmall_s hq
      by_cases h0 : q.1 = 0
      · rw [if_pos h0, if_pos h0]; rfl
      · rw [if_neg h0, if_neg h0]
        obtain ⟨v, r⟩ := q
        simp only at h0 hs ⊢
        cases r with
        | nil => simp only [Option.bind_some]; rw [if_neg h0]; unfold eF; rw [Nat.zero_add]
        | cons w t =>
          have hl := hs.length_le
          have hk := h.sx hs
          simp only [List.length_cons] at hl
          simp only [eF]
          by_cases h31 : w = 31
          · subst h31
            rw [if_neg (by decide)]
            simp only [Option.bind_some]
            rw [if_neg h0, if_pos trivial, if_pos trivial, ih _ _ hk.tl (by omega), Nat.zero_add]
          · by_cases h29 : w = 29
            · subst h29
              rw [if_pos (rfl : 29 = 29), if_neg h31, if_pos (rfl : 29 = 29), if_neg (by decide), run6 _ _ _ hk.tl]
              cases hz : mRest t with
              | none => rfl
              | some z =>
                have hs2 := mRest_s hz
                obtain ⟨x, r2⟩ := z
                simp only [Option.map_some, Option.bind_some]
                rw [if_neg (by omega)]
                have e1 : v * 1000 + x = 1000 * v + x := by rw [Nat.mul_comm]
                cases r2 with
                | nil => simp only [eF]; rw [e1]
                | cons w2 t2 =>
                  have hl2 := hs2.length_le
                  have hk2 := hk.tl.sx hs2
                  simp only [List.length_cons] at hl2
                  simp only [eF]
                  by_cases h312 : w2 = 31
                  · subst h312
                    rw [if_pos (rfl : 31 = 31), if_pos (rfl : 31 = 31), ih _ _ hk2.tl (by omega), e1]
                  · rw [if_neg h312, if_neg h312]
                    by_cases h292 : w2 = 29
                    · rw [if_pos h292]; rfl
                    · rw [if_neg h292]
            · rw [if_neg h29, if_neg h31, if_neg h29]
              simp only [Option.bind_some]
              rw [if_neg h0, if_neg h31]
/-! bounds -/
theorem eU_b {u : Nat} (h : eU u = true) : 1 ≤ u ∧ u ≤ 9 := (eU_iff u).mp h
theorem mTens_b (v : Nat) (ws : List Nat) : v ≤ (mTens v ws).1 ∧ (mTens v ws).1 ≤ v + 9 := by
  cases ws with
  | nil => exact ⟨Nat.le_refl _, Nat.le_add_right _ _⟩
  | cons u t =>
    rw [mTens_c]
    by_cases h : eU u = true
    · rw [if_pos h]; have := eU_b h; simp only; omega
    · rw [if_neg h]; simp only; omega
theorem mLow_bd (ws : List Nat) : (mLow ws).1 ≤ 99 := by
  cases ws with
  | nil => exact Nat.zero_le _
  | cons w t =>
    by_cases h2 : w < 20
    · by_cases h0 : 0 < w
      · rw [mLow_a w t h0 h2]; simp only; omega
      · have : w = 0 := by omega
        subst this
        exact Nat.zero_le _
    · by_cases h3 : w < 28
      · rw [mLow_b w t h2 h3]
        have := mTens_b (wo w) t
        have h5 : wo w = 10 * w - 180 := by unfold wo; rw [if_neg h2, if_pos h3]
        omega
      · rw [mLow_c w t (by omega)]; exact Nat.zero_le _
theorem mMore_bd {ws : List Nat} {q : Nat × List Nat} (h : mMore ws = some q) : q.1 ≤ 99 := by
  cases ws with
  | nil => cases h; exact Nat.zero_le _
  | cons w t =>
    have h : (if w = 30 then (if (mLow t).1 = 0 then none else some (mLow t)) else some (mLow (w :: t))) = some q := h
    by_cases h3 : w = 30
    · rw [if_pos h3] at h
      by_cases h4 : (mLow t).1 = 0
      · rw [if_pos h4] at h; cases h
      · rw [if_neg h4] at h; cases h; exact mLow_bd t
    · rw [if_neg h3] at h; cases h; exact mLow_bd _
theorem mSmall_bd {ws : List Nat} {q : Nat × List Nat} (h : mSmall ws = some q) : q.1 ≤ 999 := by
  match ws, h with
  | [], h => cases h; exact Nat.zero_le _
  | [w], h => rw [mSmall_1] at h; cases h; have := mLow_bd [w]; omega
  | w :: u :: t, h =>
    rw [mSmall_2] at h
    by_cases h3 : eU w ∧ u = 28
    · rw [if_pos h3] at h
      cases hm : mMore t with
      | none => rw [hm] at h; cases h
      | some z =>
        rw [hm] at h
        cases h
        have := mMore_bd hm
        have := eU_b h3.1
        simp only; omega
    · rw [if_neg h3] at h; cases h; have := mLow_bd (w :: u :: t); omega
theorem mRest_bd {ws : List Nat} {q : Nat × List Nat} (h : mRest ws = some q) : q.1 ≤ 999 := by
  cases ws with
  | nil => cases h; exact Nat.zero_le _
  | cons w t =>
    have h : (if w = 30 then mMore (w :: t) else mSmall (w :: t)) = some q := h
    by_cases h3 : w = 30
    · rw [if_pos h3] at h; have := mMore_bd h; omega
    · rw [if_neg h3] at h; exact mSmall_bd h
theorem mNumber_c (ws : List Nat) : mNumber ws = (mSmall ws).bind fun q => if q.1 = 0 then some (0, q.2) else match q.2 with
  | [] => some q
  | w :: t => if w = 29 then (mRest t).map (fun z => (1000 * q.1 + z.1, z.2)) else some q := rfl
theorem mLow_lt {ws : List Nat} (h : (mLow ws).1 ≠ 0) : (mLow ws).2.length < ws.length := by
  cases ws with
  | nil => exact (h rfl).elim
  | cons w t =>
    by_cases h2 : w < 20
    · by_cases h0 : 0 < w
      · rw [mLow_a w t h0 h2]; simp
      · have : w = 0 := by omega
        subst this
        exact (h rfl).elim
    · by_cases h3 : w < 28
      · rw [mLow_b w t h2 h3]
        have := (mTens_s (wo w) t).length_le
        simp only [List.length_cons]; omega
      · rw [mLow_c w t (by omega)] at h; exact (h rfl).elim
theorem mSmall_lt {ws : List Nat} {q : Nat × List Nat} (h : mSmall ws = some q) (h0 : q.1 ≠ 0) : q.2.length < ws.length := by
  match ws, h with
  | [], h => cases h; exact (h0 rfl).elim
  | [w], h => rw [mSmall_1] at h; cases h; exact mLow_lt h0
  | w :: u :: t, h =>
    rw [mSmall_2] at h
    by_cases h3 : eU w ∧ u = 28
    · rw [if_pos h3] at h
      cases hm : mMore t with
      | none => rw [hm] at h; cases h
      | some z =>
        rw [hm] at h
        cases h
        have := (mMore_s hm).length_le
        simp only [List.length_cons]; omega
    · rw [if_neg h3] at h; cases h; exact mLow_lt h0
theorem mNumber_p {ws : List Nat} {q : Nat × List Nat} (h : mNumber ws = some q) : q.1 ≤ 999999 ∧ q.2 <:+ ws ∧ (q.1 ≠ 0 → q.2.length < ws.length) := by
  rw [mNumber_c] at h
  cases hs : mSmall ws with
  | none => rw [hs] at h; cases h
  | some z =>
    rw [hs] at h
    simp only [Option.bind_some] at h
    have h1 := mSmall_bd hs
    have h2 := mSmall_s hs
    by_cases h0 : z.1 = 0
    · rw [if_pos h0] at h; cases h
      exact ⟨Nat.zero_le _, h2, fun q => (q rfl).elim⟩
    · rw [if_neg h0] at h
      have h3 := mSmall_lt hs h0
      obtain ⟨v, r⟩ := z
      cases r with
      | nil => cases h; exact ⟨Nat.le_trans h1 (by decide), h2, fun _ => h3⟩
      | cons w t =>
        simp only at h
        by_cases h29 : w = 29
        · rw [if_pos h29] at h
          cases hz : mRest t with
          | none => rw [hz] at h; cases h
          | some y =>
            rw [hz] at h
            cases h
            have h4 := mRest_bd hz
            have h5 := mRest_s hz
            refine ⟨by simp only at h1 ⊢; omega, (h5.trans (List.suffix_cons w t)).trans h2, fun _ => ?_⟩
            have := h5.length_le
            simp only [List.length_cons] at h3 ⊢
            omega
        · rw [if_neg h29] at h; cases h; exact ⟨Nat.le_trans h1 (by decide), h2, fun _ => h3⟩
/-- noise doesn't matter -/
theorem eRun_noise : ∀ (ws : List Nat) (e : Er), eRun e ws = eRun e (ws.filter (fun w => decide (w ≠ 0))) := by
  intro ws
  induction ws with
  | nil => intro e; rfl
  | cons w t ih =>
    intro e
    by_cases h : w = 0
    · subst h
      have e1 : eRun e (0 :: t) = eRun e t := rfl
      rw [e1, ih]
      rfl
    · rw [List.filter_cons_of_pos (by simp [h])]
      unfold eRun
      cases eStep e w with
      | none => rfl
      | some e' => exact ih e'
end
section
/-! lattices, readings by their number -/
def Lt : Type := Nat × Nat × Nat × Nat × (Nat → Nat) × (Nat → Nat → Nat) × (Nat → Nat → Nat)
def Lt.n (x : Lt) : Nat := x.1
def Lt.kind (x : Lt) : Nat := x.2.1
def Lt.slack (x : Lt) : Nat := x.2.2.1
def Lt.draw (x : Lt) : Nat := x.2.2.2.1
def Lt.m (x : Lt) : Nat → Nat := x.2.2.2.2.1
def Lt.w (x : Lt) : Nat → Nat → Nat := x.2.2.2.2.2.1
def Lt.c (x : Lt) : Nat → Nat → Nat := x.2.2.2.2.2.2
def Lt.of (x0 : Nat) (x1 : Nat) (x2 : Nat) (x3 : Nat) (x4 : Nat → Nat) (x5 : Nat → Nat → Nat) (x6 : Nat → Nat → Nat) : Lt := ⟨x0, x1, x2, x3, x4, x5, x6⟩
theorem Lt.mk_n (x0 : Nat) (x1 : Nat) (x2 : Nat) (x3 : Nat) (x4 : Nat → Nat) (x5 : Nat → Nat → Nat) (x6 : Nat → Nat → Nat) : Lt.n (Lt.of x0 x1 x2 x3 x4 x5 x6) = x0 := rfl
theorem Lt.mk_kind (x0 : Nat) (x1 : Nat) (x2 : Nat) (x3 : Nat) (x4 : Nat → Nat) (x5 : Nat → Nat → Nat) (x6 : Nat → Nat → Nat) : Lt.kind (Lt.of x0 x1 x2 x3 x4 x5 x6) = x1 := rfl
theorem Lt.mk_slack (x0 : Nat) (x1 : Nat) (x2 : Nat) (x3 : Nat) (x4 : Nat → Nat) (x5 : Nat → Nat → Nat) (x6 : Nat → Nat → Nat) : Lt.slack (Lt.of x0 x1 x2 x3 x4 x5 x6) = x2 := rfl
theorem Lt.mk_draw (x0 : Nat) (x1 : Nat) (x2 : Nat) (x3 : Nat) (x4 : Nat → Nat) (x5 : Nat → Nat → Nat) (x6 : Nat → Nat → Nat) : Lt.draw (Lt.of x0 x1 x2 x3 x4 x5 x6) = x3 := rfl
theorem Lt.mk_m (x0 : Nat) (x1 : Nat) (x2 : Nat) (x3 : Nat) (x4 : Nat → Nat) (x5 : Nat → Nat → Nat) (x6 : Nat → Nat → Nat) : Lt.m (Lt.of x0 x1 x2 x3 x4 x5 x6) = x4 := rfl
theorem Lt.mk_w (x0 : Nat) (x1 : Nat) (x2 : Nat) (x3 : Nat) (x4 : Nat → Nat) (x5 : Nat → Nat → Nat) (x6 : Nat → Nat → Nat) : Lt.w (Lt.of x0 x1 x2 x3 x4 x5 x6) = x5 := rfl
theorem Lt.mk_c (x0 : Nat) (x1 : Nat) (x2 : Nat) (x3 : Nat) (x4 : Nat → Nat) (x5 : Nat → Nat → Nat) (x6 : Nat → Nat → Nat) : Lt.c (Lt.of x0 x1 x2 x3 x4 x5 x6) = x6 := rfl
def Lt.Wf (L : Lt) : Prop := (L.n ≤ 8) ∧ (L.kind < 5) ∧ (L.slack ≤ 20) ∧ (L.draw < 2 ^ 31) ∧ (∀ k, k < L.n → 1 ≤ L.m k ∧ L.m k ≤ 4) ∧ (∀ k j, k < L.n → j < L.m k → L.w k j < 32) ∧ (∀ k j, k < L.n → j < L.m k → L.c k j < 10) ∧ (∀ k i j, k < L.n → i < j → j < L.m k → L.w k i ≠ L.w k j)
theorem Lt.Wf.n8 {L : Lt} (h : Lt.Wf L) : (L.n ≤ 8) := h.1
theorem Lt.Wf.k5 {L : Lt} (h : Lt.Wf L) : (L.kind < 5) := h.2.1
theorem Lt.Wf.s20 {L : Lt} (h : Lt.Wf L) : (L.slack ≤ 20) := h.2.2.1
theorem Lt.Wf.dr {L : Lt} (h : Lt.Wf L) : (L.draw < 2 ^ 31) := h.2.2.2.1
theorem Lt.Wf.m1 {L : Lt} (h : Lt.Wf L) : (∀ k, k < L.n → 1 ≤ L.m k ∧ L.m k ≤ 4) := h.2.2.2.2.1
theorem Lt.Wf.w32 {L : Lt} (h : Lt.Wf L) : (∀ k j, k < L.n → j < L.m k → L.w k j < 32) := h.2.2.2.2.2.1
theorem Lt.Wf.c10 {L : Lt} (h : Lt.Wf L) : (∀ k j, k < L.n → j < L.m k → L.c k j < 10) := h.2.2.2.2.2.2.1
theorem Lt.Wf.ds {L : Lt} (h : Lt.Wf L) : (∀ k i j, k < L.n → i < j → j < L.m k → L.w k i ≠ L.w k j) := h.2.2.2.2.2.2.2
/-- the product of d from k on -/
def lQ (m : Nat → Nat) : Nat → Nat → Nat
  | _, 0 => 1
  | k, d + 1 => m k * lQ m (k + 1) d
def Lt.P (L : Lt) (k : Nat) : Nat := lQ L.m k (L.n - k)
def Lt.pk (L : Lt) (r k : Nat) : Nat := r / L.P (k + 1) % L.m k
def Lt.wl (L : Lt) (p : Nat → Nat) (i : Nat) : List Nat := (List.range i).map fun k => L.w k (p k)
def Lt.cs (L : Lt) (p : Nat → Nat) : Nat → Nat
  | 0 => 0
  | i + 1 => L.cs p i + L.c i (p i)
/-- what picks tell; none: it isn't said -/
def Lt.tell (L : Lt) (p : Nat → Nat) : Option (List Nat) := eRun e0 (L.wl p L.n)
def Lt.pOk (L : Lt) (p : Nat → Nat) : Prop := ∀ k, k < L.n → p k < L.m k
/-- a reading by its number -/
def Lt.ev (L : Lt) (r : Nat) : Option (List Nat) := L.tell (L.pk r)
def Lt.cost (L : Lt) (r : Nat) : Nat := L.cs (L.pk r) L.n
theorem Lt.P_n (L : Lt) : L.P L.n = 1 := by unfold Lt.P; rw [Nat.sub_self]; rfl
theorem Lt.P_s (L : Lt) {k : Nat} (h : k < L.n) : L.P k = L.m k * L.P (k + 1) := by
  unfold Lt.P
  have e : L.n - k = (L.n - (k + 1)) + 1 := by omega
  rw [e]
  rfl
theorem lQ_pos {m : Nat → Nat} : ∀ d k, (∀ i, k ≤ i → i < k + d → 1 ≤ m i) → 0 < lQ m k d := by
  intro d
  induction d with
  | zero => intro k _; exact Nat.one_pos
  | succ d ih =>
    intro k h
    exact Nat.mul_pos (h k (Nat.le_refl _) (by omega)) (ih (k + 1) (fun i h1 h2 => h i (by omega) (by omega)))
theorem lQ_le {m : Nat → Nat} : ∀ d k, (∀ i, k ≤ i → i < k + d → m i ≤ 4) → lQ m k d ≤ 4 ^ d := by
  intro d
  induction d with
  | zero => intro k _; exact Nat.le_refl _
  | succ d ih =>
    intro k h
    have h1 := ih (k + 1) (fun i h1 h2 => h i (by omega) (by omega))
    have h2 := h k (Nat.le_refl _) (by omega)
    rw [Nat.pow_succ, Nat.mul_comm (4 ^ d)]
    exact Nat.mul_le_mul h2 h1
theorem Lt.Wf.Ppos {L : Lt} (h : L.Wf) (k : Nat) : 0 < L.P k := by
  by_cases hk : k ≤ L.n
  · exact lQ_pos _ _ (fun i h1 h2 => (h.m1 i (by omega)).1)
  · unfold Lt.P
    have e : L.n - k = 0 := by omega
    rw [e]; exact Nat.one_pos
theorem Lt.Wf.Ple {L : Lt} (h : L.Wf) (k : Nat) : L.P k ≤ 65536 := by
  by_cases hk : k ≤ L.n
  · have h1 : L.P k ≤ 4 ^ (L.n - k) := lQ_le _ _ (fun i h1 h2 => (h.m1 i (by omega)).2)
    have h2 : 4 ^ (L.n - k) ≤ 4 ^ 8 := Nat.pow_le_pow_right (by decide) (by have := h.n8; omega)
    exact Nat.le_trans h1 h2
  · unfold Lt.P
    have e : L.n - k = 0 := by omega
    rw [e]; show 1 ≤ _; decide
theorem Lt.Wf.pk_lt {L : Lt} (h : L.Wf) {r k : Nat} (hk : k < L.n) : L.pk r k < L.m k := Nat.mod_lt _ (h.m1 k hk).1
theorem Lt.Wf.pk_ok {L : Lt} (h : L.Wf) (r : Nat) : L.pOk (L.pk r) := fun _ hk => h.pk_lt hk
theorem Lt.Wf.cs_le {L : Lt} (h : L.Wf) {p : Nat → Nat} (hp : L.pOk p) : ∀ i, i ≤ L.n → L.cs p i ≤ 9 * i := by
  intro i
  induction i with
  | zero => intro _; exact Nat.le_refl _
  | succ i ih =>
    intro hi
    have h1 := ih (by omega)
    have h2 := h.c10 i (p i) (by omega) (hp i (by omega))
    show L.cs p i + _ ≤ _
    omega
theorem Lt.wl_s (L : Lt) (p : Nat → Nat) (i : Nat) : L.wl p (i + 1) = L.wl p i ++ [L.w i (p i)] := by
  unfold Lt.wl
  rw [List.range_succ, List.map_append]
  rfl
theorem Lt.wl_len (L : Lt) (p : Nat → Nat) (i : Nat) : (L.wl p i).length = i := by unfold Lt.wl; simp
/-- the words without noise -/
def Lt.wn (L : Lt) (p : Nat → Nat) (i : Nat) : List Nat := (L.wl p i).filter (fun w => decide (w ≠ 0))
theorem Lt.wn_s (L : Lt) (p : Nat → Nat) (i : Nat) : L.wn p (i + 1) = if L.w i (p i) = 0 then L.wn p i else L.wn p i ++ [L.w i (p i)] := by
  unfold Lt.wn
  rw [Lt.wl_s, List.filter_append]
  by_cases h : L.w i (p i) = 0
  · rw [if_pos h, List.filter_cons_of_neg (by simp [h])]
    simp
  · rw [if_neg h, List.filter_cons_of_pos (by simp [h])]
    rfl
theorem Lt.wn_le (L : Lt) (p : Nat → Nat) (i : Nat) : (L.wn p i).length ≤ i := by
  unfold Lt.wn
  exact Nat.le_trans (List.length_filter_le _ _) (Nat.le_of_eq (L.wl_len p i))
theorem Lt.Wf.wn_ok {L : Lt} (h : L.Wf) {p : Nat → Nat} (hp : L.pOk p) {i : Nat} (hi : i ≤ L.n) : wOk (L.wn p i) := by
  intro w hw
  unfold Lt.wn at hw
  rw [List.mem_filter] at hw
  obtain ⟨h1, h2⟩ := hw
  unfold Lt.wl at h1
  rw [List.mem_map] at h1
  obtain ⟨k, h3, h4⟩ := h1
  rw [List.mem_range] at h3
  subst h4
  exact ⟨Nat.pos_of_ne_zero (by simpa using h2), h.w32 k _ (by omega) (hp k (by omega))⟩
theorem Lt.tell_wn (L : Lt) (p : Nat → Nat) : eRun e0 (L.wn p L.n) = L.tell p := (eRun_noise (L.wl p L.n) e0).symm
end
section
/-! the Model: words -/
theorem gS1_id {G : gP} {k j : Nat} {v : Int32} (h : gS G k j = v) : gS1 G k j v = G := by
  have e : (gS1 G k j v).1 = G.1 := by
    funext a i
    have := gS_S1 G k j a i v
    unfold gS at this h
    rw [this]
    by_cases z : a = k ∧ i = j
    · rw [if_pos z, z.1, z.2, h]
    · rw [if_neg z]
  exact Prod.ext e rfl
theorem gS1_1 {G : gP} {k j : Nat} {v w : Int32} : gS1 (gS1 G k j v) k j w = gS1 G k j w := by
  refine Prod.ext ?_ rfl
  funext a i
  have h1 := gS_S1 (gS1 G k j v) k j a i w
  have h2 := gS_S1 G k j a i v
  have h3 := gS_S1 G k j a i w
  unfold gS at h1 h2 h3
  rw [h1, h2, h3]
  by_cases z : a = k ∧ i = j
  · rw [if_pos z, if_pos z]
  · rw [if_neg z, if_neg z, if_neg z]
theorem gS_at {G : gP} {k j : Nat} {v : Int32} : gS (gS1 G k j v) k j = v := by rw [gS_S1, if_pos ⟨rfl, rfl⟩]
theorem gS_ne {G : gP} {k j a i : Nat} {v : Int32} (h : ¬ (a = k ∧ i = j)) : gS (gS1 G k j v) a i = gS G a i := by rw [gS_S1, if_neg h]
theorem nI_inj {a b : Nat} (h : a = b) : nI a = nI b := by rw [h]
theorem in_nI {w : Nat} (h : w < 2 ^ 31) (a b : Int64) (lo hi : Nat) (ha : a.toInt = lo) (hb : b.toInt = hi) : f_X11_in (nI w).toInt64 a b = if lo ≤ w ∧ w ≤ hi then 1 else 0 := by
  unfold f_X11_in
  simp only [Int64.lt_iff_toInt_lt, Int32.toInt_toInt64, nI_toInt h, ha, hb]
  by_cases h1 : lo ≤ w
  · rw [if_neg (by omega)]
    by_cases h2 : w ≤ hi
    · rw [if_neg (by omega), if_pos ⟨h1, h2⟩]
    · rw [if_pos (by omega), if_neg (fun z => h2 z.2)]
  · rw [if_pos (by omega), if_neg (fun z => h1 z.1)]
theorem in_m4 (a b : Int64) (lo : Nat) (ha : a.toInt = lo) : f_X11_in ((-4 : Int32)).toInt64 a b = 0 := by
  unfold f_X11_in
  rw [if_pos ?_]
  rw [Int64.lt_iff_toInt_lt, Int32.toInt_toInt64, ha]
  have : ((-4 : Int32)).toInt = -4 := by decide
  omega
/-- the words of a reading lie there -/
def mWs (G : gP) (ws : List Nat) : Prop := gS G 0 3 = nI ws.length ∧ aL G 3 0 ws ∧ ws.length ≤ 8 ∧ wOk ws
theorem mWs.nx {G : gP} {ws : List Nat} {v : Int32} (h : mWs G ws) : mWs (gS1 G 0 7 v) ws := ⟨by rw [gS_ne (by decide)]; exact h.1, h.2.1.S1 (Or.inl (by decide)), h.2.2⟩
def mAt (G : gP) (ws rest : List Nat) : Prop := mWs G ws ∧ rest <:+ ws ∧ gS G 0 7 = nI (ws.length - rest.length)
def mN (G : gP) (ws rest : List Nat) : gP := gS1 G 0 7 (nI (ws.length - rest.length))
theorem mAt.mk' {G : gP} {ws rest r2 : List Nat} (h : mAt G ws rest) (h2 : r2 <:+ ws) : mAt (mN G ws r2) ws r2 := ⟨h.1.nx, h2, gS_at⟩
theorem mAt.id {G : gP} {ws rest : List Nat} (h : mAt G ws rest) : mN G ws rest = G := gS1_id h.2.2
theorem mN_N {G : gP} {ws r1 r2 : List Nat} : mN (mN G ws r1) ws r2 = mN G ws r2 := gS1_1
def hdI : List Nat → Int32
  | [] => -4
  | w :: _ => nI w
theorem sx_at {ws rest : List Nat} {w : Nat} {t : List Nat} (h : (w :: t) <:+ ws) : ws[ws.length - (w :: t).length]? = some w := by
  obtain ⟨p, hp⟩ := h
  subst hp
  rw [List.length_append, Nat.add_sub_cancel, List.getElem?_append_right (Nat.le_refl _), Nat.sub_self]
  rfl
theorem mAt.here {G : gP} {ws rest : List Nat} (h : mAt G ws rest) : f_X11_wordHere G = some (hdI rest) := by
  obtain ⟨⟨h1, h2, h3, h4⟩, h5, h6⟩ := h
  have hl := h5.length_le
  unfold f_X11_wordHere
  rw [h1, h6]
  cases rest with
  | nil =>
    rw [if_pos (nI_le (by simp) (by omega))]
    rfl
  | cons w t =>
    simp only [List.length_cons] at hl
    have h7 : ws.length - (w :: t).length < ws.length := by simp only [List.length_cons]; omega
    rw [if_neg (nI_ge h7 (by omega)), gIn_nI (by omega), decide_eq_true (by omega), nI_clamp (by omega)]
    show some _ = some _
    have := h2 _ _ (sx_at (rest := w :: t) h5)
    rw [Nat.zero_add] at this
    rw [this]
    rfl
theorem mAt.step {G : gP} {ws t : List Nat} {w : Nat} (h : mAt G ws (w :: t)) : gS1 G 0 7 (gS G 0 7 + 1) = mN G ws t := by
  have hl := h.2.1.length_le
  simp only [List.length_cons] at hl
  unfold mN
  rw [h.2.2, nI_1]
  congr 2
  simp only [List.length_cons]
  omega
theorem mAt.tl {G : gP} {ws t : List Nat} {w : Nat} (h : mAt G ws (w :: t)) : mAt (mN G ws t) ws t := h.mk' ((List.suffix_cons w t).trans h.2.1)
theorem mAt.w {G : gP} {ws t : List Nat} {w : Nat} (h : mAt G ws (w :: t)) : 0 < w ∧ w < 32 := h.1.2.2.2 w (h.2.1.subset (by simp))
theorem worth_nI {w : Nat} (h0 : 0 < w) (h : w < 32) : f_X11_worth (nI w) = nI (wo w) := by
  unfold f_X11_worth wo
  rw [in_nI (by omega) 1 19 1 19 rfl rfl, in_nI (by omega) 20 27 20 27 rfl rfl]
  by_cases h1 : w < 20
  · rw [if_pos (show 1 ≤ w ∧ w ≤ 19 by omega), if_neg (by decide), if_pos h1]
  · rw [if_neg (show ¬ (1 ≤ w ∧ w ≤ 19) by omega), if_pos rfl, if_neg h1]
    by_cases h2 : w < 28
    · rw [if_pos (show 20 ≤ w ∧ w ≤ 27 by omega), if_neg (by decide), if_pos h2]
      have e1 : (10 : Int32) = nI 10 := rfl
      have e2 : (180 : Int32) = nI 180 := rfl
      rw [e1, e2, pk_mul, pk_sub (by omega)]
    · rw [if_neg (show ¬ (20 ≤ w ∧ w ≤ 27) by omega), if_pos rfl, if_neg h2]
      rfl
theorem eU_in {u : Nat} (h : u < 32) : f_X11_in (nI u).toInt64 1 9 = 0 ↔ ¬ eU u = true := by
  rw [in_nI (by omega) 1 9 1 9 rfl rfl, eU_iff]
  by_cases h1 : 1 ≤ u ∧ u ≤ 9
  · rw [if_pos h1]; exact ⟨fun z => absurd z (by decide), fun z => (z h1).elim⟩
  · rw [if_neg h1]; exact ⟨fun _ => h1, fun _ => rfl⟩
theorem low_ok {G : gP} {ws rest : List Nat} (h : mAt G ws rest) : f_X11_low G = some (mN G ws (mLow rest).2, nI (mLow rest).1) := by
  unfold f_X11_low
  rw [h.here]
  simp only [Option.bind_some, gLet]
  cases rest with
  | nil =>
    have e1 : f_X11_worth (hdI []) = 0 := by decide
    rw [if_pos e1]
    have e2 : mLow [] = (0, []) := rfl
    rw [e2, h.id]; rfl
  | cons w t =>
    have hw := h.w
    have e0 : hdI (w :: t) = nI w := rfl
    rw [e0, worth_nI hw.1 hw.2]
    by_cases h28 : 28 ≤ w
    · have e1 : wo w = 0 := by unfold wo; rw [if_neg (by omega), if_neg (by omega)]
      rw [e1, if_pos nI_0, mLow_c w t h28, h.id]; rfl
    · have e1 : 0 < wo w := by
        unfold wo
        by_cases z : w < 20
        · rw [if_pos z]; omega
        · rw [if_neg z, if_pos (by omega)]; omega
      have e2 : wo w ≤ 90 := by
        unfold wo
        by_cases z : w < 20
        · rw [if_pos z]; omega
        · rw [if_neg z, if_pos (by omega)]; omega
      rw [if_neg (nI_ne0 e1 (by omega)), h.step]
      have e3 : (19 : Int32) = nI 19 := rfl
      rw [e3]
      by_cases h20 : w < 20
      · rw [if_pos (nI_le (by omega) (by omega)), mLow_a w t hw.1 h20]
        have e4 : wo w = w := by unfold wo; rw [if_pos h20]
        rw [e4]
      · rw [if_neg (nI_ge (by omega) (by omega)), h.tl.here, mLow_b w t h20 (by omega)]
        simp only [Option.bind_some]
        cases t with
        | nil =>
          have e5 : f_X11_in (hdI []).toInt64 1 9 = 0 := in_m4 1 9 1 rfl
          rw [if_pos e5]; rfl
        | cons u t' =>
          have e6 : hdI (u :: t') = nI u := rfl
          have hu := h.tl.w
          rw [e6, mTens_c]
          by_cases z : eU u = true
          · rw [if_neg (fun q => (eU_in hu.2).mp q z), if_pos z, h.tl.step, mN_N, nI_add]
          · rw [if_pos ((eU_in hu.2).mpr z), if_neg z]
theorem hd_eq {ws rest : List Nat} {G : gP} (h : mAt G ws rest) (a : Nat) (ha : a < 2 ^ 31) : hdI rest = nI a ↔ rest.head? = some a := by
  cases rest with
  | nil =>
    simp only [hdI, List.head?_nil]
    constructor
    · intro z
      have := congrArg Int32.toInt z
      rw [nI_toInt ha] at this
      have e : ((-4 : Int32)).toInt = -4 := by decide
      omega
    · intro z; cases z
  | cons w t =>
    have hw := h.w
    simp only [hdI, List.head?_cons, Option.some.injEq]
    exact nI_eq (by omega) ha
def oI (o : Option (Nat × List Nat)) : Int32 := match o with
  | none => -4
  | some q => nI q.1
/-- an answer that is 'wrong' leaves the place anywhere -/
def mRes (G : gP) (ws : List Nat) (o : Option (Nat × List Nat)) (r : gP × Int32) : Prop := match o with
  | none => (∃ rest, rest <:+ ws ∧ r.1 = mN G ws rest) ∧ r.2 = -4
  | some q => r.1 = mN G ws q.2 ∧ r.2 = nI q.1
theorem more_ok {G : gP} {ws rest : List Nat} (h : mAt G ws rest) : Ok (f_X11_more G) (mRes G ws (mMore rest)) := by
  unfold f_X11_more
  rw [h.here]
  simp only [Option.bind_some, gLet]
  by_cases ha : rest.head? = some 30
  · cases rest with
    | nil => cases ha
    | cons w t =>
      cases ha
      have e1 : hdI (30 :: t) = (30 : Int32) := rfl
      rw [e1]
      simp only [if_true]
      rw [if_neg (show ¬ (1 : Int32) = 0 by decide), h.step, low_ok h.tl]
      simp only [Option.bind_some]
      have e3 : mMore (30 :: t) = if (mLow t).1 = 0 then none else some (mLow t) := rfl
      rw [e3, mN_N]
      have hb := mLow_bd t
      by_cases h0 : (mLow t).1 = 0
      · rw [if_pos h0, h0, if_pos (show nI 0 = 0 from nI_0)]
        exact ⟨_, rfl, ⟨_, ((mLow_s t).trans (List.suffix_cons 30 t)).trans h.2.1, rfl⟩, rfl⟩
      · rw [if_neg h0, if_neg (nI_ne0 (by omega) (by omega))]
        exact ⟨_, rfl, rfl, rfl⟩
  · have e1 : ¬ hdI rest = (30 : Int32) := fun z => ha ((hd_eq h 30 (by decide)).mp z)
    rw [if_neg e1]
    simp only [if_true]
    have e2 : gS1 G 0 7 (gS G 0 7 + 0) = G := gS1_id (by rw [Int32.add_zero])
    rw [e2, low_ok h]
    simp only [Option.bind_some]
    have e3 : mMore rest = some (mLow rest) := by
      cases rest with
      | nil => rfl
      | cons w t =>
        show (if w = 30 then _ else _) = _
        rw [if_neg (fun z => ha (by rw [z]; rfl))]
    rw [e3]
    exact ⟨_, rfl, rfl, rfl⟩
theorem mRes.r0 {G : gP} {ws : List Nat} {o : Option (Nat × List Nat)} {r : gP × Int32} {r0 : List Nat} (h : mRes (mN G ws r0) ws o r) : mRes G ws o r := by
  cases o with
  | none =>
    obtain ⟨⟨x, h1, h2⟩, h3⟩ := h
    exact ⟨⟨x, h1, by rw [h2, mN_N]⟩, h3⟩
  | some q => exact ⟨h.1.trans mN_N, h.2⟩
theorem m4_neg : ¬ (0 : Int32) ≤ -4 := by decide
theorem small_ok {G : gP} {ws rest : List Nat} (h : mAt G ws rest) : Ok (f_X11_small G) (mRes G ws (mSmall rest)) := by
  unfold f_X11_small
  rw [h.here]
  simp only [Option.bind_some, gLet]
  have hlow : mSmall rest = some (mLow rest) → Ok ((f_X11_low G).bind fun q17 => some (q17.1, q17.2)) (mRes G ws (mSmall rest)) := by
    intro e
    rw [e, low_ok h]
    exact ⟨_, rfl, rfl, rfl⟩
  cases rest with
  | nil =>
    have e5 : f_X11_in (hdI []).toInt64 1 9 = 0 := in_m4 1 9 1 rfl
    rw [if_pos e5]
    exact hlow rfl
  | cons w t =>
    have hw := h.w
    have e6 : hdI (w :: t) = nI w := rfl
    rw [e6]
    by_cases hu : eU w = true
    · rw [if_neg (fun q => (eU_in hw.2).mp q hu)]
      have hl := h.2.1.length_le
      simp only [List.length_cons] at hl
      have h8 := h.1.2.2.1
      have e7 : gS G 0 7 + 1 = nI (ws.length - t.length) := by
        rw [h.2.2, nI_1]
        apply nI_inj
        simp only [List.length_cons]; omega
      rw [h.1.1, e7]
      cases t with
      | nil =>
        rw [if_pos (nI_le (by simp) (by omega))]
        exact hlow rfl
      | cons u t' =>
        have hl2 := hl
        simp only [List.length_cons] at hl2
        rw [if_neg (nI_ge (by simp only [List.length_cons]; omega) (by omega)), gIn_nI (by omega), decide_eq_true (by simp only [List.length_cons]; omega), nI_clamp (by omega)]
        have e8 : gS G 3 (ws.length - (u :: t').length) = nI u := by
          have := h.1.2.1 _ _ (sx_at (rest := u :: t') ((List.suffix_cons w (u :: t')).trans h.2.1))
          rwa [Nat.zero_add] at this
        rw [e8]
        have hu2 := h.tl.w
        have e9 : gck true (if nI u = 28 then some (1 : Int32) else some 0) = (if nI u = 28 then some (1 : Int32) else some 0) := rfl
        rw [e9]
        by_cases h28 : u = 28
        · subst h28
          rw [if_pos (show nI 28 = 28 from rfl)]
          simp only [Option.bind_some]
          rw [if_neg (show ¬ (1 : Int32) = 0 by decide)]
          have e10 : gS1 G 0 7 (gS G 0 7 + 2) = mN G ws t' := by
            unfold mN
            rw [h.2.2, nI_lit 2, nI_add]
            congr 2
            simp only [List.length_cons]; omega
          rw [e10]
          have ha : mAt (mN G ws t') ws t' := h.mk' ((List.suffix_cons 28 t').trans ((List.suffix_cons w _).trans h.2.1))
          refine Ok.bind (more_ok ha) (fun q hq => ?_)
          have hq := hq.r0
          have e11 : mSmall (w :: 28 :: t') = (mMore t').map (fun q => (100 * w + q.1, q.2)) := by rw [mSmall_2, if_pos ⟨hu, rfl⟩]
          rw [e11]
          cases hm : mMore t' with
          | none =>
            rw [hm] at hq
            obtain ⟨hq1, hq2⟩ := hq
            rw [hq2, if_neg m4_neg]
            exact ⟨_, rfl, hq1, rfl⟩
          | some z =>
            rw [hm] at hq
            obtain ⟨hq1, hq2⟩ := hq
            have := mMore_bd hm
            rw [hq2, if_pos (nI_pos' (by omega)), nI_lit 100, pk_mul, nI_add]
            exact ⟨_, rfl, hq1, rfl⟩
        · rw [if_neg (show ¬ nI u = 28 from fun z => h28 ((nI_eq (b := 28) (by omega) (by omega)).mp z))]
          exact hlow (by rw [mSmall_2, if_neg (fun z => h28 z.2)])
    · rw [if_pos ((eU_in hw.2).mpr hu)]
      refine hlow ?_
      cases t with
      | nil => rfl
      | cons u t' => rw [mSmall_2, if_neg (fun z => hu z.1)]
theorem m4_le : (-4 : Int32) ≤ 0 := by decide
theorem number_ok {G : gP} {ws rest : List Nat} (h : mAt G ws rest) : Ok (f_X11_number G) (mRes G ws (mNumber rest)) := by
  unfold f_X11_number
  refine Ok.bind (small_ok h) (fun q hq => ?_)
  rw [mNumber_c]
  cases hs : mSmall rest with
  | none =>
    rw [hs] at hq
    obtain ⟨hq1, hq2⟩ := hq
    rw [hq2, if_pos m4_le]
    exact ⟨_, rfl, hq1, rfl⟩
  | some z =>
    rw [hs] at hq
    obtain ⟨hq1, hq2⟩ := hq
    have hb := mSmall_bd hs
    simp only [Option.bind_some]
    rw [hq1, hq2]
    have hsx := (mSmall_s hs).trans h.2.1
    have ha : mAt (mN G ws z.2) ws z.2 := h.mk' hsx
    by_cases h0 : z.1 = 0
    · rw [if_pos h0, if_pos ((nI_le0 (by omega)).mpr h0)]
      refine ⟨_, rfl, rfl, ?_⟩
      rw [h0]
    · rw [if_neg h0, if_neg (fun y => h0 ((nI_le0 (by omega)).mp y)), ha.here]
      simp only [Option.bind_some, gLet]
      obtain ⟨v, r⟩ := z
      simp only at hb h0 hsx ha ⊢
      by_cases h29 : r.head? = some 29
      · cases r with
        | nil => cases h29
        | cons w t =>
          cases h29
          rw [if_pos (show hdI (29 :: t) = 29 from rfl), ha.step, mN_N]
          have ht : mAt (mN G ws t) ws t := h.mk' ((List.suffix_cons 29 t).trans hsx)
          rw [ht.here]
          simp only [Option.bind_some]
          rw [if_pos trivial]
          have hr : Ok (if hdI t = 30 then (f_X11_more (mN G ws t)).bind fun q18 => some (q18.1, q18.2) else (f_X11_small (mN G ws t)).bind fun q16 => some (q16.1, q16.2)) (mRes G ws (mRest t)) := by
            by_cases h30 : t.head? = some 30
            · rw [if_pos (show hdI t = (30 : Int32) from (hd_eq ht 30 (by decide)).mpr h30)]
              refine Ok.bind (more_ok ht) (fun y hy => ⟨_, rfl, ?_⟩)
              cases t with
              | nil => cases h30
              | cons w t' => cases h30; exact hy.r0
            · rw [if_neg (show ¬ hdI t = (30 : Int32) from fun y => h30 ((hd_eq ht 30 (by decide)).mp y))]
              refine Ok.bind (small_ok ht) (fun y hy => ⟨_, rfl, ?_⟩)
              have e : mRest t = mSmall t := by
                cases t with
                | nil => rfl
                | cons w t' =>
                  show (if w = 30 then _ else _) = _
                  rw [if_neg (fun z => h30 (by rw [z]; rfl))]
              rw [e]
              exact hy.r0
          refine Ok.bind hr (fun y hy => ?_)
          cases hm : mRest t with
          | none =>
            rw [hm] at hy
            obtain ⟨hy1, hy2⟩ := hy
            rw [hy2, if_neg m4_neg]
            exact ⟨_, rfl, hy1, rfl⟩
          | some x =>
            rw [hm] at hy
            obtain ⟨hy1, hy2⟩ := hy
            have := mRest_bd hm
            rw [hy2, if_pos (nI_pos' (by omega)), nI_lit 1000, pk_mul, nI_add]
            exact ⟨_, rfl, hy1, rfl⟩
      · rw [if_neg (show ¬ hdI r = (29 : Int32) from fun y => h29 ((hd_eq ha 29 (by decide)).mp y))]
        refine ⟨_, rfl, ?_⟩
        cases r with
        | nil => exact ⟨rfl, rfl⟩
        | cons w t =>
          simp only
          rw [if_neg (fun z => h29 (by rw [z]; rfl))]
          exact ⟨rfl, rfl⟩
end
section
/-! the Model: a reading -/
def tZ (k j : Nat) : Bool := decide (k = 2 ∨ k = 3 ∨ k = 4 ∨ (k = 0 ∧ (j = 3 ∨ j = 4 ∨ j = 6 ∨ j = 7)))
/-- the loop's state in isSaid -/
def sJ (G : gP) (ws : List Nat) (n : Nat) (s : gP × Int32 × Int32) : Prop :=
  gOff (fun k j => decide (k = 4 ∨ (k = 0 ∧ (j = 6 ∨ j = 7)))) G s.1 ∧ mWs s.1 ws ∧
  ((∃ ns rest, n = rest.length + 1 ∧ s.2 = (1, 1) ∧ mAt s.1 ws rest ∧ gS s.1 0 6 = nI ns.length ∧ aL s.1 4 0 ns ∧ 2 * ns.length + rest.length ≤ 8 ∧ eRun e0 ws = eRun ⟨0, 0, 0, false, ns⟩ rest) ∨
   (n = 0 ∧ s.2.1 = 0 ∧ eRun e0 ws = none) ∨
   (n = 0 ∧ s.2 = (1, 0) ∧ ∃ ns, eRun e0 ws = some ns ∧ gS s.1 0 6 = nI ns.length ∧ aL s.1 4 0 ns ∧ 0 < ns.length ∧ ns.length ≤ 8))
def sP (G : gP) (ws : List Nat) (r : gP × Int32) : Prop :=
  gOff (fun k j => decide (k = 4 ∨ (k = 0 ∧ (j = 6 ∨ j = 7)))) G r.1 ∧
  (match eRun e0 ws with
   | none => r.2 = 0
   | some ns => r.2 = 1 ∧ gS r.1 0 6 = nI ns.length ∧ aL r.1 4 0 ns ∧ 0 < ns.length ∧ ns.length ≤ 8)
theorem mWs.S1 {G : gP} {ws : List Nat} {k j : Nat} {v : Int32} (h : mWs G ws) (h1 : k ≠ 3) (h2 : ¬ (k = 0 ∧ j = 3)) : mWs (gS1 G k j v) ws := ⟨by rw [gS_ne (fun z => h2 ⟨z.1.symm, z.2.symm⟩)]; exact h.1, h.2.1.S1 (Or.inl h1), h.2.2⟩
theorem isSaid_ok {G : gP} {ws : List Nat} (h : mWs G ws) : Ok (f_X11_isSaid G) (sP G ws) := by
  unfold f_X11_isSaid
  simp only [gLet]
  refine Ok.bind (Q := sP G ws) ?_ (fun r hr => ?_)
  · refine Ok.loop (sJ G ws) ?_ gFu (ws.length + 1) _ (by have := h.2.2.1; unfold gFu; omega) ?_
    · rintro n ⟨G1, i1, m1⟩ ⟨hO, hW, hc⟩
      simp only at hO hW hc
      unfold f_X11_isSaid_b14
      rcases hc with ⟨ns, rest, hn, hs, hA, h6, ha, hle, he⟩ | ⟨hn, hs, he⟩ | ⟨hn, hs, ns, he, h6, ha, hp, hle⟩
      · cases hs
        simp only
        rw [if_neg (by decide), if_neg (by decide)]
        refine Ok.bind (number_ok hA) (fun q hq => ?_)
        have hle2 := hA.2.1.length_le
        have hrun := said_run (rest.length + 1) ns rest (hW.2.2.2.sx hA.2.1) (by omega)
        rw [mSaid] at hrun
        -- where the number ends
        have hcom : ∀ r2, r2 <:+ ws → q.1 = mN G1 ws r2 → mAt q.1 ws r2 ∧ gS q.1 0 6 = nI ns.length ∧ aL q.1 4 0 ns ∧ gOff (fun k j => decide (k = 4 ∨ (k = 0 ∧ (j = 6 ∨ j = 7)))) G q.1 := by
          intro r2 hr2 hq1
          rw [hq1]
          exact ⟨hA.mk' hr2, by unfold mN; rw [gS_ne (by decide)]; exact h6, ha.S1 (Or.inl (by decide)), hO.S1 rfl⟩
        have hG25 : ∀ (r2 : List Nat) (v : Int32), mAt q.1 ws r2 → gOff (fun k j => decide (k = 4 ∨ (k = 0 ∧ (j = 6 ∨ j = 7)))) G q.1 → gS q.1 0 6 = nI ns.length → mAt (gS1 (gS1 q.1 4 ns.length v) 0 6 (gS (gS1 q.1 4 ns.length v) 0 6 + 1)) ws r2 ∧ gOff (fun k j => decide (k = 4 ∨ (k = 0 ∧ (j = 6 ∨ j = 7)))) G (gS1 (gS1 q.1 4 ns.length v) 0 6 (gS (gS1 q.1 4 ns.length v) 0 6 + 1)) ∧ gS (gS1 (gS1 q.1 4 ns.length v) 0 6 (gS (gS1 q.1 4 ns.length v) 0 6 + 1)) 0 6 = nI (ns.length + 1) := by
          intro r2 v h1 h2 h3
          refine ⟨⟨(h1.1.S1 (by decide) (by omega)).S1 (by decide) (by decide), h1.2.1, ?_⟩, (h2.S1 (by simp)).S1 rfl, ?_⟩
          · rw [gS_ne (by decide), gS_ne (by omega)]; exact h1.2.2
          · rw [gS_at, gS_ne (by omega), h3, nI_1]
        have hid : ∀ X : gP, gS1 X 0 7 (gS X 0 7 + 0) = X := fun X => gS1_id (by rw [Int32.add_zero])
        -- wrong: the loop ends
        have hbad : ∀ r2, mAt q.1 ws r2 → gS q.1 0 6 = nI ns.length → gOff (fun k j => decide (k = 4 ∨ (k = 0 ∧ (j = 6 ∨ j = 7)))) G q.1 → eRun e0 ws = none → ∀ x y : Int32, x = 0 → ∃ n', n' < n ∧ sJ G ws n' (gS1 (gS1 (gS1 q.1 4 ns.length q.2) 0 6 (gS (gS1 q.1 4 ns.length q.2) 0 6 + 1)) 0 7 (gS (gS1 (gS1 q.1 4 ns.length q.2) 0 6 (gS (gS1 q.1 4 ns.length q.2) 0 6 + 1)) 0 7 + 0), x, y) ∧ sJ G ws n' (gS1 (gS1 (gS1 q.1 4 ns.length q.2) 0 6 (gS (gS1 q.1 4 ns.length q.2) 0 6 + 1)) 0 7 (gS (gS1 (gS1 q.1 4 ns.length q.2) 0 6 (gS (gS1 q.1 4 ns.length q.2) 0 6 + 1)) 0 7 + 1), x, y) := by
          intro r2 h1 h2 h3 h4 x y hx
          obtain ⟨k1, k2, k3⟩ := hG25 r2 q.2 h1 h3 h2
          rw [hid]
          exact ⟨0, by omega, ⟨k2, k1.1, Or.inr (Or.inl ⟨rfl, hx, h4⟩)⟩, ⟨k2.S1 rfl, k1.1.nx, Or.inr (Or.inl ⟨rfl, hx, h4⟩)⟩⟩
        cases hm : mNumber rest with
        | none =>
          rw [hm] at hq hrun
          obtain ⟨⟨r2, hr2, hq1⟩, hq2⟩ := hq
          obtain ⟨hA2, h62, ha2, hO2⟩ := hcom r2 hr2 hq1
          rw [hA2.here]
          simp only [Option.bind_some, gLet]
          rw [h62, gIn_nI (by omega), decide_eq_true (by omega), nI_clamp (by omega)]
          obtain ⟨n', hn', k1, k2⟩ := hbad r2 hA2 h62 hO2 (by rw [he]; exact hrun.symm) (if q.2 ≤ 0 then 0 else if (if hdI r2 = 31 then (1 : Int32) else 0) = 0 then if gS q.1 0 7 = gS q.1 0 3 then 1 else 0 else 1) (if hdI r2 = 31 then (1 : Int32) else 0) (by rw [hq2, if_pos m4_le])
          refine Ok.ck rfl ?_
          by_cases h31 : hdI r2 = 31
          · rw [if_pos h31] at k2 ⊢
            rw [if_neg (by decide)]
            exact ⟨_, rfl, n', hn', k2⟩
          · rw [if_neg h31] at k1 ⊢
            rw [if_pos rfl]
            exact ⟨_, rfl, n', hn', k1⟩
        | some z =>
          obtain ⟨v, r2⟩ := z
          rw [hm] at hq hrun
          obtain ⟨hq1, hq2⟩ := hq
          obtain ⟨hb1, hb2, hb3⟩ := mNumber_p hm
          simp only at hq1 hq2 hb1 hb2 hb3
          obtain ⟨hA2, h62, ha2, hO2⟩ := hcom r2 (hb2.trans hA.2.1) hq1
          rw [hA2.here]
          simp only [Option.bind_some, gLet]
          rw [h62, gIn_nI (by omega), decide_eq_true (by omega), nI_clamp (by omega)]
          simp only [Option.bind_some] at hrun
          refine Ok.ck rfl ?_
          by_cases h0 : v = 0
          · rw [if_pos h0] at hrun
            obtain ⟨n', hn', k1, k2⟩ := hbad r2 hA2 h62 hO2 (by rw [he]; exact hrun.symm) (if q.2 ≤ 0 then 0 else if (if hdI r2 = 31 then (1 : Int32) else 0) = 0 then if gS q.1 0 7 = gS q.1 0 3 then 1 else 0 else 1) (if hdI r2 = 31 then (1 : Int32) else 0) (by rw [hq2, h0, if_pos (show nI 0 ≤ 0 by decide)])
            by_cases h31 : hdI r2 = 31
            · rw [if_pos h31] at k2 ⊢
              rw [if_neg (by decide)]
              exact ⟨_, rfl, n', hn', k2⟩
            · rw [if_neg h31] at k1 ⊢
              rw [if_pos rfl]
              exact ⟨_, rfl, n', hn', k1⟩
          · rw [if_neg h0] at hrun
            have hv : ¬ q.2 ≤ 0 := by rw [hq2]; exact nI_nle (by omega) (by omega)
            rw [if_neg hv]
            have hb4 := hb3 h0
            obtain ⟨k1, k2, k3⟩ := hG25 r2 q.2 hA2 hO2 h62
            have ka : aL (gS1 (gS1 q.1 4 ns.length q.2) 0 6 (gS (gS1 q.1 4 ns.length q.2) 0 6 + 1)) 4 0 (ns ++ [v]) := by
              refine aL.S1 ?_ (Or.inl (by decide))
              have := ha2.push (v := v)
              rw [Nat.zero_add, ← hq2] at this
              exact this
            have kl : (ns ++ [v]).length = ns.length + 1 := by simp
            cases r2 with
            | nil =>
              rw [if_neg (show ¬ hdI [] = 31 by decide), if_pos rfl, if_pos rfl, hA2.2.2, hA2.1.1, if_pos (by simp), hid]
              refine ⟨_, rfl, 0, by omega, k2, k1.1, Or.inr (Or.inr ⟨rfl, rfl, ns ++ [v], ?_, ?_, ka, ?_, ?_⟩)⟩
              · rw [he, ← hrun]
              · rw [k3, kl]
              · omega
              · omega
            | cons w t =>
              simp only [List.length_cons] at hb4
              by_cases h31 : w = 31
              · subst h31
                rw [if_pos (show hdI (31 :: t) = 31 from rfl), if_neg (by decide), if_neg (by decide)]
                refine ⟨_, rfl, t.length + 1, by omega, ?_⟩
                have e1 : ∀ X : gP, mAt X ws (31 :: t) → gS1 X 0 7 (gS X 0 7 + 1) = mN X ws t := fun X hX => hX.step
                rw [e1 _ k1]
                refine ⟨k2.S1 rfl, k1.1.nx, Or.inl ⟨ns ++ [v], t, rfl, rfl, k1.tl, ?_, ka.S1 (Or.inl (by decide)), by omega, ?_⟩⟩
                · unfold mN; rw [gS_ne (by decide), k3, kl]
                · rw [he, ← hrun]
                  simp only
                  rw [if_pos trivial]
                  exact said_run _ _ _ (hW.2.2.2.sx (((List.suffix_cons 31 t).trans hb2).trans hA.2.1)) (by omega)
              · have hh : ¬ hdI (w :: t) = 31 := fun z => h31 (Option.some.inj ((hd_eq hA2 31 (by decide)).mp z))
                have hl3 := hA2.2.1.length_le
                simp only [List.length_cons] at hl3
                have h8 := hW.2.2.1
                rw [if_neg hh, if_pos rfl, if_pos rfl, hA2.2.2, hA2.1.1, if_neg (fun z => by have := (nI_eq (by omega) (by omega)).mp z; simp only [List.length_cons] at this; omega), hid]
                refine ⟨_, rfl, 0, by omega, k2, k1.1, Or.inr (Or.inl ⟨rfl, rfl, ?_⟩)⟩
                rw [he, ← hrun]
                simp only
                rw [if_neg h31]
      · simp only [hs]
        rw [if_pos trivial]
        refine ⟨_, rfl, ?_⟩
        simp only
        refine ⟨hO, ?_⟩
        rw [he]
      · cases hs
        simp only
        rw [if_neg (by decide), if_pos trivial]
        refine ⟨_, rfl, ?_⟩
        simp only
        refine ⟨hO, ?_⟩
        rw [he]
        exact ⟨rfl, h6, ha, hp, hle⟩
    · refine ⟨(gOff.rf.S1 rfl).S1 rfl, (h.S1 (by decide) (by decide)).S1 (by decide) (by decide), Or.inl ⟨[], ws, rfl, rfl, ⟨(h.S1 (by decide) (by decide)).S1 (by decide) (by decide), List.suffix_refl _, ?_⟩, ?_, aL.nil, ?_, rfl⟩⟩
      · rw [gS_ne (by decide), gS_at, Nat.sub_self]; rfl
      · rw [gS_at]; rfl
      · have := h.2.2.1
        simp only [List.length_nil]; omega
  · refine Ok.ck ?_ ⟨_, rfl, hr⟩
    unfold sP at hr
    cases he : eRun e0 ws with
    | none => rw [he] at hr; rw [hr.2]; rfl
    | some ns => rw [he] at hr; rw [hr.2.1]; rfl
end
section
/-! the Model: a row, a reading that is taken -/
def mRow (G : gP) (k o : Nat) (L : Lt) : Prop := gS G k o = nI L.n ∧ gS G k (o + 1) = nI L.kind ∧ gS G k (o + 2) = nI L.slack ∧ gS G k (o + 3) = nI L.draw ∧
  ∀ i, i < L.n → gS G k (o + 4 + 9 * i) = nI (L.m i) ∧ ∀ j, j < L.m i → gS G k (o + 5 + 9 * i + j) = nI (L.w i j) ∧ gS G k (o + 9 + 9 * i + j) = nI (L.c i j)
def mPk (G : gP) (n : Nat) (p : Nat → Nat) : Prop := ∀ k, k < n → gS G 2 k = nI (p k)
theorem at_nI (k : Nat) : f_X11_at (nI k) = nI (4 + 9 * k) := by
  unfold f_X11_at
  rw [nI_lit 4, nI_lit 9, pk_mul, nI_add]
/-- what a taken reading leaves -/
def mTk (G : gP) (L : Lt) (p : Nat → Nat) (ns : List Nat) : Prop := gS G 0 6 = nI ns.length ∧ aL G 4 0 ns ∧ 0 < ns.length ∧ ns.length ≤ 8
def tP (G : gP) (L : Lt) (p : Nat → Nat) (r : gP × Int32) : Prop :=
  gOff (fun k j => decide (k = 3 ∨ k = 4 ∨ (k = 0 ∧ (j = 3 ∨ j = 4 ∨ j = 6 ∨ j = 7)))) G r.1 ∧ gS r.1 0 4 = nI (L.cs p L.n) ∧
  (match L.tell p with
   | none => r.2 = 0
   | some ns => r.2 = 1 ∧ mTk r.1 L p ns)
theorem takesPicked_ok {G : gP} {L : Lt} {p : Nat → Nat} (hL : L.Wf) (hR : mRow G 1 0 L) (hp : L.pOk p) (hk : mPk G L.n p) : Ok (f_X11_takesPicked G) (tP G L p) := by
  unfold f_X11_takesPicked
  simp only [gLet]
  have h8 := hL.n8
  refine Ok.bind (Q := fun G1 => gOff (fun k j => decide (k = 3 ∨ (k = 0 ∧ (j = 3 ∨ j = 4)))) G G1 ∧ gS G1 0 4 = nI (L.cs p L.n) ∧ mWs G1 (L.wn p L.n)) ?_ (fun G1 h1 => ?_)
  · refine Ok.up (fun i s => s.2 = nI i ∧ gOff (fun k j => decide (k = 3 ∨ (k = 0 ∧ (j = 3 ∨ j = 4)))) G s.1 ∧ gS s.1 0 4 = nI (L.cs p i) ∧ gS s.1 0 3 = nI (L.wn p i).length ∧ aL s.1 3 0 (L.wn p i)) L.n (by omega) ?_ ?_ ?_
    · rintro i ⟨G1, x⟩ hi ⟨hx, hO, hc, hn, ha⟩
      simp only at hx hO hc hn ha
      subst hx
      unfold f_X11_takesPicked_b12
      simp only
      have e1 : gS G1 1 0 = nI L.n := by rw [(hO 1 0 rfl).1]; exact hR.1
      have e2 : gS G1 2 i = nI (p i) := by rw [(hO 2 i (by simp)).1]; exact hk i hi
      have hpi := hp i hi
      have hm := hL.m1 i hi
      have hr := (hR.2.2.2.2 i hi).2 (p i) hpi
      have e3 : gS G1 1 (5 + 9 * i + p i) = nI (L.w i (p i)) := by
        rw [(hO 1 _ (by simp)).1]
        have := hr.1
        rwa [Nat.zero_add] at this
      have e4 : gS G1 1 (9 + 9 * i + p i) = nI (L.c i (p i)) := by
        rw [(hO 1 _ (by simp)).1]
        have := hr.2
        rwa [Nat.zero_add] at this
      have hw := hL.w32 i (p i) hi hpi
      have hcb := hL.c10 i (p i) hi hpi
      have hcs := hL.cs_le hp i (by omega)
      rw [e1, if_neg (nI_ge hi (by omega)), gIn_nI (by omega), decide_eq_true (by omega), nI_clamp (by omega), e2, at_nI, nI_lit 1, nI_lit 5, nI_add, nI_add, nI_add, nI_add, gIn_nI (by omega), gIn_nI (by omega), decide_eq_true (by omega), decide_eq_true (by omega), nI_clamp (by omega), nI_clamp (by omega)]
      have e5 : 4 + 9 * i + 1 + p i = 5 + 9 * i + p i := by omega
      have e6 : 4 + 9 * i + 5 + p i = 9 + 9 * i + p i := by omega
      rw [e5, e6, e3, e4, hc, nI_add]
      simp only [gck, gLet, if_true]
      have hwn := L.wn_le p i
      have hcs' : L.cs p i + L.c i (p i) = L.cs p (i + 1) := rfl
      rw [hcs']
      by_cases h0 : L.w i (p i) = 0
      · rw [h0, if_pos nI_0]
        refine ⟨_, rfl, ?_⟩
        have e7 : L.wn p (i + 1) = L.wn p i := by rw [L.wn_s, if_pos h0]
        refine ⟨nI_add i 1, hO.S1 rfl, gS_at, ?_, ?_⟩
        · rw [e7, gS_ne (by decide)]; exact hn
        · rw [e7]; exact ha.S1 (Or.inl (by decide))
      · rw [if_neg (nI_ne0 (by omega) (by omega))]
        have e7 : L.wn p (i + 1) = L.wn p i ++ [L.w i (p i)] := by rw [L.wn_s, if_neg h0]
        rw [gS_ne (show ¬ (0 = 0 ∧ 3 = 4) by decide), hn, gIn_nI (by omega), decide_eq_true (by omega), nI_clamp (by omega), if_pos rfl]
        refine ⟨_, rfl, ?_⟩
        refine ⟨nI_add i 1, ((hO.S1 rfl).S1 (by simp)).S1 rfl, ?_, ?_, ?_⟩
        · rw [gS_ne (by decide), gS_ne (by omega), gS_at]
        · rw [gS_at, gS_ne (by omega), gS_ne (by decide), hn, nI_add, e7]
          apply nI_inj; simp
        · rw [e7]
          refine aL.S1 ?_ (Or.inl (by decide))
          have := (ha.S1 (a := 0) (i := 4) (v := nI (L.cs p (i + 1))) (Or.inl (by decide))).push (v := L.w i (p i))
          rwa [Nat.zero_add] at this
    · rintro ⟨G1, x⟩ ⟨hx, hO, hc, hn, ha⟩
      simp only at hx hO hc hn ha
      subst hx
      unfold f_X11_takesPicked_b12
      simp only
      have e1 : gS G1 1 0 = nI L.n := by rw [(hO 1 0 rfl).1]; exact hR.1
      rw [e1, if_pos (nI_le (Nat.le_refl _) (by omega))]
      exact ⟨_, rfl, hO, hc, hn, ha, Nat.le_trans (L.wn_le p L.n) h8, hL.wn_ok hp (Nat.le_refl _)⟩
    · refine ⟨rfl, (gOff.rf.S1 rfl).S1 rfl, ?_, ?_, ?_⟩
      · rw [gS_at]; rfl
      · rw [gS_ne (by decide), gS_at]; rfl
      · exact aL.nil
  · obtain ⟨hO, hc, hw⟩ := h1
    refine Ok.bind (isSaid_ok hw) (fun r hr => ⟨_, rfl, ?_⟩)
    obtain ⟨hO2, hr2⟩ := hr
    rw [L.tell_wn p] at hr2
    refine ⟨?_, ?_, ?_⟩
    · refine (hO.w ?_).tr (hO2.w ?_)
      · intro k j h; simp at h ⊢; omega
      · intro k j h; simp at h ⊢; omega
    · rw [(hO2 0 4 rfl).1]; exact hc
    · cases ht : L.tell p with
      | none => rw [ht] at hr2; exact hr2
      | some ns => rw [ht] at hr2; exact hr2
/-- a taken reading by its number -/
def tR (G : gP) (L : Lt) (r : Nat) (q : gP × Int32) : Prop :=
  gOff tZ G q.1 ∧ mPk q.1 L.n (L.pk r) ∧ gS q.1 0 4 = nI (L.cost r) ∧
  (match L.ev r with
   | none => q.2 = 0
   | some ns => q.2 = 1 ∧ mTk q.1 L (L.pk r) ns)
theorem mRow.off {Z : Nat → Nat → Bool} {G G' : gP} {k o : Nat} {L : Lt} (h : mRow G k o L) (hO : gOff Z G G') (hz : ∀ j, Z k j = false) : mRow G' k o L := by
  obtain ⟨h1, h2, h3, h4, h5⟩ := h
  refine ⟨?_, ?_, ?_, ?_, fun i hi => ⟨?_, fun j hj => ⟨?_, ?_⟩⟩⟩
  · rw [(hO k _ (hz _)).1]; exact h1
  · rw [(hO k _ (hz _)).1]; exact h2
  · rw [(hO k _ (hz _)).1]; exact h3
  · rw [(hO k _ (hz _)).1]; exact h4
  · rw [(hO k _ (hz _)).1]; exact (h5 i hi).1
  · rw [(hO k _ (hz _)).1]; exact ((h5 i hi).2 j hj).1
  · rw [(hO k _ (hz _)).1]; exact ((h5 i hi).2 j hj).2
theorem takes_ok {G : gP} {L : Lt} (hL : L.Wf) (hR : mRow G 1 0 L) {r : Nat} (hr : r < 2 ^ 31) : Ok (f_X11_takes G (nI r)) (tR G L r) := by
  unfold f_X11_takes
  simp only [gLet]
  have h8 := hL.n8
  refine Ok.bind (Q := fun G1 => gOff (fun k j => decide (k = 2)) G G1 ∧ mPk G1 L.n (L.pk r)) ?_ (fun G1 h1 => ?_)
  · refine Ok.up (fun i s => s.2.2 = nI (L.n - i) - 1 ∧ s.2.1 = nI (r / L.P (L.n - i)) ∧ gOff (fun k j => decide (k = 2)) G s.1 ∧ ∀ k, L.n - i ≤ k → k < L.n → gS s.1 2 k = nI (L.pk r k)) L.n (by omega) ?_ ?_ ?_
    · rintro i ⟨G1, x, y⟩ hi ⟨hy, hx, hO, hp⟩
      simp only at hy hx hO hp
      have e0 : L.n - i = (L.n - i - 1) + 1 := by omega
      have hy' : y = nI (L.n - i - 1) := by rw [hy, e0, nI_pred]; rfl
      clear hy
      generalize hk : L.n - i - 1 = k at *
      have hkn : k < L.n := by omega
      have e1 : L.n - (i + 1) = k := by omega
      rw [e0] at hx
      subst hy' hx
      unfold f_X11_takes_b11
      simp only
      have hm := hL.m1 k hkn
      have e2 : ∀ G2 : gP, gOff (fun k j => decide (k = 2)) G G2 → gS G2 1 (4 + 9 * k) = nI (L.m k) := by
        intro G2 hO2
        rw [(hO2 1 _ rfl).1]
        have := (hR.2.2.2.2 k hkn).1
        rwa [Nat.zero_add] at this
      have hd : r / L.P (k + 1) < 2 ^ 31 := Nat.lt_of_le_of_lt (Nat.div_le_self _ _) hr
      rw [if_neg (nI_pos (by omega)), at_nI, gIn_nI (by omega), decide_eq_true (by omega), nI_clamp (by omega), nI_clamp (by omega), e2 G1 hO, gNz_nI (by omega) (by omega), gIn_nI (by omega), decide_eq_true (by omega), gRem_nI hd (by omega) (by omega)]
      simp only [gck, gLet, if_true]
      rw [e2 _ (hO.S1 rfl), gNz_nI (by omega) (by omega), pk_div hd (by omega) (by omega)]
      simp only [if_true]
      refine ⟨_, rfl, ?_⟩
      simp only
      refine ⟨?_, ?_, hO.S1 rfl, ?_⟩
      · rw [Int32.sub_eq_add_neg]
      · rw [L.P_s hkn, Nat.div_div_eq_div_mul, Nat.mul_comm]
      · intro a ha1 ha2
        by_cases hak : a = k
        · subst hak; rw [gS_at]; rfl
        · rw [gS_ne (by omega)]
          exact hp a (by omega) ha2
    · rintro ⟨G1, x, y⟩ ⟨hy, hx, hO, hp⟩
      simp only at hy hx hO hp
      rw [Nat.sub_self] at hy
      unfold f_X11_takes_b11
      simp only
      rw [hy, if_pos (by decide)]
      exact ⟨_, rfl, hO, fun k hk => hp k (by omega) hk⟩
    · refine ⟨?_, ?_, gOff.rf, fun k h1 h2 => by omega⟩
      · rw [hR.1]; rfl
      · show nI r = _
        rw [Nat.sub_zero, L.P_n, Nat.div_one]
  · obtain ⟨hO, hp⟩ := h1
    refine Ok.bind (takesPicked_ok hL (hR.off hO (fun _ => rfl)) (hL.pk_ok r) hp) (fun q hq => ⟨_, rfl, ?_⟩)
    obtain ⟨hO2, hc, ht⟩ := hq
    refine ⟨?_, ?_, hc, ?_⟩
    · refine (hO.w ?_).tr (hO2.w ?_)
      · intro k j h; simp [tZ] at h ⊢; omega
      · intro k j h; simp [tZ] at h ⊢; omega
    · intro k hk
      rw [(hO2 2 k (by simp)).1]; exact hp k hk
    · exact ht
/-- how many readings there are -/
def Lt.N (L : Lt) : Nat := if L.n = 0 then 0 else L.P 0
theorem lQ_s (m : Nat → Nat) : ∀ d k, lQ m k (d + 1) = lQ m k d * m (k + d) := by
  intro d
  induction d with
  | zero => intro k; show m k * 1 = 1 * m k; omega
  | succ d ih =>
    intro k
    show m k * lQ m (k + 1) (d + 1) = m k * lQ m (k + 1) d * m (k + (d + 1))
    rw [ih (k + 1), Nat.mul_assoc]
    have e : k + 1 + d = k + (d + 1) := by omega
    rw [e]
theorem readings_ok {G : gP} {L : Lt} (hL : L.Wf) (hR : mRow G 1 0 L) : Ok (f_X11_readings G) (fun x => x = nI L.N) := by
  unfold f_X11_readings
  simp only [gLet]
  have h8 := hL.n8
  refine Ok.bind (Q := fun x => x = nI L.N) ?_ (fun x hx => ⟨_, rfl, hx⟩)
  refine Ok.up (fun i s => s.2 = nI i ∧ s.1 = if L.n = 0 then 0 else nI (lQ L.m 0 i)) L.n (by omega) ?_ ?_ ?_
  · rintro i ⟨x, y⟩ hi ⟨hy, hx⟩
    simp only at hy hx
    rw [if_neg (by omega)] at hx
    subst hy hx
    unfold f_X11_readings_b17
    simp only
    have e2 : gS G 1 (4 + 9 * i) = nI (L.m i) := by
      have := (hR.2.2.2.2 i hi).1
      rwa [Nat.zero_add] at this
    rw [hR.1, if_neg (nI_ge hi (by omega)), at_nI, gIn_nI (by omega), decide_eq_true (by omega), nI_clamp (by omega), e2, pk_mul]
    refine ⟨_, rfl, nI_1 i, ?_⟩
    simp only
    rw [if_neg (by omega), lQ_s, Nat.zero_add]
  · rintro ⟨x, y⟩ ⟨hy, hx⟩
    simp only at hy hx
    unfold f_X11_readings_b17
    simp only
    rw [hR.1, hy, if_pos (nI_le (Nat.le_refl _) (by omega))]
    refine ⟨_, rfl, ?_⟩
    simp only
    rw [hx]
    unfold Lt.N Lt.P
    by_cases h0 : L.n = 0
    · rw [if_pos h0, if_pos h0]; rfl
    · rw [if_neg h0, if_neg h0, Nat.sub_zero]
  · refine ⟨rfl, ?_⟩
    simp only
    rw [hR.1]
    by_cases h0 : L.n = 0
    · rw [h0, if_pos nI_0, if_pos rfl]
    · rw [if_neg (nI_ne0 (by omega) (by omega)), if_neg h0]; rfl
end
section
/-! what is sound -/
def rsB (f : Nat → Nat) : Nat → Bool
  | 0 => true
  | k + 1 => rsB f k && decide (f k < f (k + 1))
def stB (f : Nat → Nat) : Nat → Bool
  | 0 => true
  | k + 1 => stB f k && decide ((f (k + 1) : Int) - (f k : Int) = (f 1 : Int) - (f 0 : Int))
def suN (f : Nat → Nat) : Nat → Nat
  | 0 => 0
  | k + 1 => suN f k + f k
def nsF (ns : List Nat) (k : Nat) : Nat := ns.getD k 0
def sound (kind : Nat) (ns : List Nat) : Bool :=
  if kind = 1 then decide (1 < ns.length) && decide (suN (nsF ns) (ns.length - 1) = nsF ns (ns.length - 1))
  else if kind = 2 then rsB (nsF ns) (ns.length - 1)
  else if kind = 3 then decide (1 < ns.length) && decide (suN (nsF ns) (ns.length - 1) % 100 = nsF ns (ns.length - 1) % 100)
  else if kind = 4 then rsB (nsF ns) (ns.length - 1) && stB (nsF ns) (ns.length - 1)
  else true
def nsOk (ns : List Nat) : Prop := 0 < ns.length ∧ ns.length ≤ 8 ∧ ∀ v ∈ ns, v ≤ 999999
def bI (b : Bool) : Int32 := if b = true then 1 else 0
theorem bI_0 (b : Bool) : bI b = 0 ↔ b = false := by cases b <;> decide
theorem bI_Z (b : Bool) : gZ (bI b) = true := by cases b <;> decide
theorem nsF_le {ns : List Nat} (h : nsOk ns) (k : Nat) : nsF ns k ≤ 999999 := by
  unfold nsF
  rw [List.getD_eq_getElem?_getD]
  cases hk : ns[k]? with
  | none => exact Nat.zero_le _
  | some v => exact h.2.2 v (List.mem_of_getElem? hk)
theorem nsF_aL {G : gP} {k o : Nat} {ns : List Nat} (h : aL G k o ns) {j : Nat} (hj : j < ns.length) : gS G k (o + j) = nI (nsF ns j) := by
  have e : ns[j]? = some (nsF ns j) := by
    unfold nsF
    rw [List.getD_eq_getElem?_getD, List.getElem?_eq_getElem hj]
    rfl
  exact h j _ e
theorem suN_le {ns : List Nat} (h : nsOk ns) : ∀ k, suN (nsF ns) k ≤ 999999 * k := by
  intro k
  induction k with
  | zero => exact Nat.le_refl _
  | succ k ih => have := nsF_le h k; show suN (nsF ns) k + nsF ns k ≤ _; omega
theorem sub_iff {a b c d : Nat} (ha : a < 2 ^ 30) (hb : b < 2 ^ 30) (hc : c < 2 ^ 30) (hd : d < 2 ^ 30) : nI a - nI b = nI c - nI d ↔ (a : Int) - b = (c : Int) - d := by
  rw [← Int32.toInt_inj, pk_sub_toInt ha hb, pk_sub_toInt hc hd]
theorem holds_ok {G : gP} {L : Lt} {p : Nat → Nat} {ns : List Nat} (hL : L.Wf) (hR : mRow G 1 0 L) (ht : mTk G L p ns) (hn : nsOk ns) : Ok (f_X11_holds G) (fun x => x = bI (sound L.kind ns)) := by
  obtain ⟨h6, ha, h0, h8⟩ := ht
  have hG : ∀ j, j < ns.length → gS G 4 j = nI (nsF ns j) := fun j hj => by
    have := nsF_aL ha hj
    rwa [Nat.zero_add] at this
  have hF := nsF_le hn
  unfold f_X11_holds
  have e1 : gS G 0 6 - 1 = nI (ns.length - 1) := by rw [h6, nI_lit 1, pk_sub (by omega)]
  rw [e1, gIn_nI (by omega), decide_eq_true (by omega), nI_clamp (by omega), hG _ (by omega)]
  refine Ok.ck rfl ?_
  simp only [gLet]
  refine Ok.bind (Q := fun x => x = (nI (suN (nsF ns) (ns.length - 1)), bI (rsB (nsF ns) (ns.length - 1)), bI (stB (nsF ns) (ns.length - 1)))) ?_ (fun x hx => ?_)
  · refine Ok.up (fun i s => s = (nI (suN (nsF ns) i), bI (rsB (nsF ns) i), bI (stB (nsF ns) i), nI i)) (ns.length - 1) (by omega) ?_ ?_ rfl
    · rintro i s hi rfl
      unfold f_X11_holds_b22
      simp only
      have hs := suN_le hn i
      have g1 := hG i (by omega)
      have g2 := hG (i + 1) (by omega)
      have g3 := hG 1 (by omega)
      have g4 := hG 0 (by omega)
      have f1 := hF i
      have f2 := hF (i + 1)
      have f3 := hF 1
      have f4 := hF 0
      rw [h6, nI_1, if_neg (nI_ge (by omega) (by omega)), gIn_nI (by omega), decide_eq_true (by omega), nI_clamp (by omega), gIn_nI (by omega), decide_eq_true (by omega), nI_clamp (by omega), g1, g2, g3, g4, nI_add]
      refine Ok.ck rfl ?_
      simp only [gck, gLet, if_true]
      have hr : (if bI (rsB (nsF ns) i) = 0 then some (0 : Int32) else if nI (nsF ns (i + 1)) ≤ nI (nsF ns i) then some 0 else some 1) = some (bI (rsB (nsF ns) (i + 1))) := by
        show _ = some (bI (rsB (nsF ns) i && decide (nsF ns i < nsF ns (i + 1))))
        cases hb : rsB (nsF ns) i with
        | false => rw [if_pos (by decide)]; rfl
        | true =>
          rw [if_neg (by decide)]
          by_cases hlt : nsF ns i < nsF ns (i + 1)
          · rw [if_neg (nI_ge hlt (by omega)), decide_eq_true hlt]; rfl
          · rw [if_pos (nI_le (by omega) (by omega)), decide_eq_false hlt]; rfl
      rw [hr]
      simp only [Option.bind_some]
      have hsum : suN (nsF ns) i + nsF ns i = suN (nsF ns) (i + 1) := rfl
      rw [hsum]
      have hst : stB (nsF ns) (i + 1) = (stB (nsF ns) i && decide ((nsF ns (i + 1) : Int) - (nsF ns i : Int) = (nsF ns 1 : Int) - (nsF ns 0 : Int))) := rfl
      cases hb : stB (nsF ns) i with
      | false => rw [if_pos (by decide)]; refine ⟨_, rfl, ?_⟩; simp only; rw [hst, hb]; rfl
      | true =>
        rw [if_neg (by decide)]
        by_cases hlt : (nsF ns (i + 1) : Int) - (nsF ns i : Int) = (nsF ns 1 : Int) - (nsF ns 0 : Int)
        · rw [if_pos ((sub_iff (by omega) (by omega) (by omega) (by omega)).mpr hlt)]
          refine ⟨_, rfl, ?_⟩; simp only; rw [hst, hb, decide_eq_true hlt]; rfl
        · rw [if_neg (fun z => hlt ((sub_iff (by omega) (by omega) (by omega) (by omega)).mp z))]
          refine ⟨_, rfl, ?_⟩; simp only; rw [hst, hb, decide_eq_false hlt]; rfl
    · rintro s rfl
      unfold f_X11_holds_b22
      simp only
      rw [h6, nI_1, if_pos (nI_le (by omega) (by omega))]
      exact ⟨_, rfl, rfl⟩
  · subst hx
    simp only
    have hk := hL.k5
    have hk1 : gS G 1 1 = nI L.kind := hR.2.1
    have hs := suN_le hn (ns.length - 1)
    have hf := hF (ns.length - 1)
    rw [hk1, h6]
    have keq : ∀ a : Nat, a < 2 ^ 31 → (nI L.kind = nI a ↔ L.kind = a) := fun a ha => nI_eq (by omega) ha
    unfold sound
    rw [nI_lit 1, nI_lit 2, nI_lit 3, nI_lit 4, nI_lit 100]
    by_cases k1 : L.kind = 1
    · rw [if_pos ((keq 1 (by omega)).mpr k1), if_pos k1]
      by_cases hl : 1 < ns.length
      · rw [if_neg (nI_ge hl (by omega)), decide_eq_true hl]
        by_cases he : suN (nsF ns) (ns.length - 1) = nsF ns (ns.length - 1)
        · rw [if_pos (nI_inj he), decide_eq_true he]; exact ⟨_, rfl, rfl⟩
        · rw [if_neg (fun z => he ((nI_eq (by omega) (by omega)).mp z)), decide_eq_false he]; exact ⟨_, rfl, rfl⟩
      · rw [if_pos (nI_le (by omega) (by omega)), decide_eq_false hl]; exact ⟨_, rfl, rfl⟩
    · rw [if_neg (fun z => k1 ((keq 1 (by omega)).mp z)), if_neg k1]
      by_cases k2 : L.kind = 2
      · rw [if_pos ((keq 2 (by omega)).mpr k2), if_pos k2]
        exact Ok.ck (bI_Z _) ⟨_, rfl, rfl⟩
      · rw [if_neg (fun z => k2 ((keq 2 (by omega)).mp z)), if_neg k2]
        by_cases k3 : L.kind = 3
        · rw [if_pos ((keq 3 (by omega)).mpr k3), if_pos k3]
          by_cases hl : 1 < ns.length
          · rw [if_neg (nI_ge hl (by omega)), decide_eq_true hl, gRem_nI (by omega) (by omega) (by omega), gRem_nI (by omega) (by omega) (by omega)]
            by_cases he : suN (nsF ns) (ns.length - 1) % 100 = nsF ns (ns.length - 1) % 100
            · rw [if_pos (nI_inj he), decide_eq_true he]; exact ⟨_, rfl, rfl⟩
            · rw [if_neg (fun z => he ((nI_eq (by omega) (by omega)).mp z)), decide_eq_false he]; exact ⟨_, rfl, rfl⟩
          · rw [if_pos (nI_le (by omega) (by omega)), decide_eq_false hl]; exact ⟨_, rfl, rfl⟩
        · rw [if_neg (fun z => k3 ((keq 3 (by omega)).mp z)), if_neg k3]
          by_cases k4 : L.kind = 4
          · rw [if_pos ((keq 4 (by omega)).mpr k4), if_pos k4]
            cases rsB (nsF ns) (ns.length - 1) <;> cases stB (nsF ns) (ns.length - 1) <;> exact ⟨_, rfl, rfl⟩
          · rw [if_neg (fun z => k4 ((keq 4 (by omega)).mp z)), if_neg k4]
            exact ⟨_, rfl, rfl⟩
theorem mSaid_ok : ∀ n ns ws ns', mSaid n ns ws = some ns' → (∀ v ∈ ns, v ≤ 999999) → (∀ v ∈ ns', v ≤ 999999) ∧ 0 < ns'.length ∧ ns'.length ≤ ns.length + n := by
  intro n
  induction n with
  | zero => intro ns ws ns' h; cases h
  | succ n ih =>
    intro ns ws ns' h hb
    rw [mSaid] at h
    cases hm : mNumber ws with
    | none => rw [hm] at h; cases h
    | some q =>
      rw [hm] at h
      simp only [Option.bind_some] at h
      have hp := mNumber_p hm
      by_cases h0 : q.1 = 0
      · rw [if_pos h0] at h; cases h
      · rw [if_neg h0] at h
        have hb2 : ∀ v ∈ ns ++ [q.1], v ≤ 999999 := by
          intro v hv
          rw [List.mem_append] at hv
          rcases hv with hv | hv
          · exact hb v hv
          · rw [List.mem_singleton] at hv; subst hv; exact hp.1
        cases hq : q.2 with
        | nil =>
          rw [hq] at h
          cases h
          exact ⟨hb2, by simp, by simp⟩
        | cons w t =>
          rw [hq] at h
          simp only at h
          by_cases h31 : w = 31
          · rw [if_pos h31] at h
            obtain ⟨k1, k2, k3⟩ := ih _ _ _ h hb2
            refine ⟨k1, k2, ?_⟩
            simp only [List.length_append, List.length_cons, List.length_nil] at k3
            omega
          · rw [if_neg h31] at h; cases h
theorem Lt.Wf.tell_ok {L : Lt} (hL : L.Wf) {p : Nat → Nat} (hp : L.pOk p) {ns : List Nat} (h : L.tell p = some ns) : (∀ v ∈ ns, v ≤ 999999) ∧ 0 < ns.length := by
  rw [← L.tell_wn p] at h
  have h2 := said_run 9 [] (L.wn p L.n) (hL.wn_ok hp (Nat.le_refl _)) (by have := L.wn_le p L.n; have := hL.n8; omega)
  have h3 : mSaid 9 [] (L.wn p L.n) = some ns := h2.trans h
  obtain ⟨k1, k2, -⟩ := mSaid_ok _ _ _ _ h3 (fun v hv => by cases hv)
  exact ⟨k1, k2⟩
theorem mTk.ok {G : gP} {L : Lt} {p : Nat → Nat} {ns : List Nat} (hL : L.Wf) (hp : L.pOk p) (h : L.tell p = some ns) (ht : mTk G L p ns) : nsOk ns := ⟨ht.2.2.1, ht.2.2.2, (hL.tell_ok hp h).1⟩
end
section
/-! what is found of all readings -/
def Lt.so (L : Lt) (r : Nat) : Bool := match L.ev r with
  | none => false
  | some ns => sound L.kind ns
def Lt.saidN (L : Lt) : Nat → Nat
  | 0 => 0
  | t + 1 => if L.ev t = none then L.saidN t else L.saidN t + 1
def Lt.soundN (L : Lt) : Nat → Nat
  | 0 => 0
  | t + 1 => if L.so t = true then L.soundN t + 1 else L.soundN t
def Lt.costO (L : Lt) (o : Option Nat) : Nat := match o with
  | none => 9999
  | some b => L.cost b
def Lt.bestR (L : Lt) : Nat → Option Nat
  | 0 => none
  | t + 1 => if L.so t = true ∧ L.cost t < L.costO (L.bestR t) then some t else L.bestR t
def rI (o : Option Nat) : Int32 := match o with
  | none => -4
  | some b => nI b
def fZ (k j : Nat) : Bool := tZ k j || decide (k = 5 ∨ (k = 0 ∧ (j = 8 ∨ j = 9 ∨ j = 10 ∨ j = 11 ∨ j = 13)))
theorem Lt.Wf.cost_le {L : Lt} (h : L.Wf) (r : Nat) : L.cost r ≤ 72 := by
  have := h.cs_le (h.pk_ok r) L.n (Nat.le_refl _)
  have := h.n8
  unfold Lt.cost
  omega
theorem Lt.Wf.costO_le {L : Lt} (h : L.Wf) (o : Option Nat) : L.costO o ≤ 9999 := by
  cases o with
  | none => exact Nat.le_refl _
  | some b => have := h.cost_le b; show L.cost b ≤ _; omega
theorem Lt.saidN_le (L : Lt) : ∀ t, L.saidN t ≤ t := by
  intro t
  induction t with
  | zero => exact Nat.le_refl _
  | succ t ih => unfold Lt.saidN; split <;> omega
theorem Lt.soundN_le (L : Lt) : ∀ t, L.soundN t ≤ t := by
  intro t
  induction t with
  | zero => exact Nat.le_refl _
  | succ t ih => unfold Lt.soundN; split <;> omega
theorem Lt.bestR_lt (L : Lt) : ∀ t b, L.bestR t = some b → b < t ∧ L.so b = true := by
  intro t
  induction t with
  | zero => intro b h; cases h
  | succ t ih =>
    intro b h
    unfold Lt.bestR at h
    by_cases hc : L.so t = true ∧ L.cost t < L.costO (L.bestR t)
    · rw [if_pos hc] at h; cases h; exact ⟨by omega, hc.1⟩
    · rw [if_neg hc] at h; have := ih b h; exact ⟨by omega, this.2⟩
theorem Lt.Wf.N_le {L : Lt} (h : L.Wf) : L.N ≤ 65536 := by
  unfold Lt.N
  split
  · exact Nat.zero_le _
  · exact h.Ple 0
/-- what finds leaves -/
def fP (L : Lt) (G : gP) : Prop := (gS G 0 8 = nI (L.saidN L.N)) ∧ (gS G 0 9 = nI (L.soundN L.N)) ∧ (gS G 0 10 = rI (L.bestR L.N)) ∧ (gS G 0 11 = nI (L.costO (L.bestR L.N))) ∧ (match L.bestR L.N with
    | none => gS G 0 13 = 0
    | some b => ∃ ns, L.ev b = some ns ∧ nsOk ns ∧ gS G 0 13 = nI ns.length ∧ aL G 5 0 ns)
theorem fP.said {L : Lt} {G : gP} (h : fP L G) : (gS G 0 8 = nI (L.saidN L.N)) := h.1
theorem fP.snd {L : Lt} {G : gP} (h : fP L G) : (gS G 0 9 = nI (L.soundN L.N)) := h.2.1
theorem fP.best {L : Lt} {G : gP} (h : fP L G) : (gS G 0 10 = rI (L.bestR L.N)) := h.2.2.1
theorem fP.bc {L : Lt} {G : gP} (h : fP L G) : (gS G 0 11 = nI (L.costO (L.bestR L.N))) := h.2.2.2.1
theorem fP.bm {L : Lt} {G : gP} (h : fP L G) : (match L.bestR L.N with
    | none => gS G 0 13 = 0
    | some b => ∃ ns, L.ev b = some ns ∧ nsOk ns ∧ gS G 0 13 = nI ns.length ∧ aL G 5 0 ns) := h.2.2.2.2
theorem rI_m4 (o : Option Nat) (h : ∀ b, o = some b → b < 2 ^ 31) : rI o = -4 ↔ o = none := by
  cases o with
  | none => exact ⟨fun _ => rfl, fun _ => rfl⟩
  | some b =>
    refine ⟨fun z => ?_, fun z => by cases z⟩
    exfalso
    have := congrArg Int32.toInt z
    rw [show rI (some b) = nI b from rfl, nI_toInt (h b rfl)] at this
    have e : ((-4 : Int32)).toInt = -4 := by decide
    omega
theorem finds_ok {G : gP} {L : Lt} (hL : L.Wf) (hR : mRow G 1 0 L) : Ok (f_X11_finds G) (fun G' => gOff fZ G G' ∧ fP L G') := by
  unfold f_X11_finds
  simp only [gLet]
  have hN := hL.N_le
  have tzf : ∀ k j, fZ k j = false → tZ k j = false := by intro k j h; unfold fZ at h; rw [Bool.or_eq_false_iff] at h; exact h.1
  have z1 : ∀ {G1 : gP}, gOff fZ G G1 → mRow G1 1 0 L := fun hO => hR.off hO (fun j => by simp [fZ, tZ])
  refine Ok.bind (readings_ok hL (z1 ((((gOff.rf.S1 rfl).S1 rfl).S1 rfl).S1 rfl))) (fun x hx => ?_)
  subst hx
  refine Ok.bind (Q := fun G1 => gOff fZ G G1 ∧ gS G1 0 8 = nI (L.saidN L.N) ∧ gS G1 0 9 = nI (L.soundN L.N) ∧ gS G1 0 10 = rI (L.bestR L.N) ∧ gS G1 0 11 = nI (L.costO (L.bestR L.N))) ?_ (fun G1 h1 => ?_)
  · refine Ok.up (fun t s => s.2 = nI t ∧ gOff fZ G s.1 ∧ gS s.1 0 8 = nI (L.saidN t) ∧ gS s.1 0 9 = nI (L.soundN t) ∧ gS s.1 0 10 = rI (L.bestR t) ∧ gS s.1 0 11 = nI (L.costO (L.bestR t))) L.N (by omega) ?_ ?_ ?_
    · rintro t ⟨G1, x⟩ ht ⟨hx, hO, h8, h9, h10, h11⟩
      simp only at hx hO h8 h9 h10 h11
      subst hx
      unfold f_X11_finds_b30
      simp only
      rw [if_neg (nI_ge ht (by omega))]
      refine Ok.bind (takes_ok hL (z1 hO) (show t < 2 ^ 31 by omega)) (fun q hq => ?_)
      obtain ⟨hO2, hp, hc, hm⟩ := hq
      have o8 : gS q.1 0 8 = nI (L.saidN t) := by rw [(hO2 0 8 rfl).1]; exact h8
      have o9 : gS q.1 0 9 = nI (L.soundN t) := by rw [(hO2 0 9 rfl).1]; exact h9
      have o10 : gS q.1 0 10 = rI (L.bestR t) := by rw [(hO2 0 10 rfl).1]; exact h10
      have o11 : gS q.1 0 11 = nI (L.costO (L.bestR t)) := by rw [(hO2 0 11 rfl).1]; exact h11
      have hO3 : gOff fZ G q.1 := hO.tr (hO2.w tzf)
      cases he : L.ev t with
      | none =>
        rw [he] at hm
        simp only at hm
        rw [hm, if_pos rfl]
        refine ⟨_, rfl, nI_1 t, hO3, ?_, ?_, ?_, ?_⟩
        · show gS q.1 0 8 = _; rw [o8, Lt.saidN, if_pos he]
        · have e : L.so t = false := by unfold Lt.so; rw [he]
          show gS q.1 0 9 = _; rw [o9]; rw [Lt.soundN, e]; rfl
        · have e : L.so t = false := by unfold Lt.so; rw [he]
          show gS q.1 0 10 = _; rw [o10]; rw [Lt.bestR, e, if_neg (fun z => by cases z.1)]
        · have e : L.so t = false := by unfold Lt.so; rw [he]
          show gS q.1 0 11 = _; rw [o11]; rw [Lt.bestR, e, if_neg (fun z => by cases z.1)]
      | some ns =>
        rw [he] at hm
        obtain ⟨hm1, hm2⟩ := hm
        rw [hm1, if_neg (by decide)]
        simp only [gLet]
        have hns : nsOk ns := hm2.ok hL (hL.pk_ok t) he
        have hO4 : gOff fZ G (gS1 q.1 0 8 (gS q.1 0 8 + 1)) := hO3.S1 rfl
        have hm3 : mTk (gS1 q.1 0 8 (gS q.1 0 8 + 1)) L (L.pk t) ns := ⟨by rw [gS_ne (by decide)]; exact hm2.1, hm2.2.1.S1 (Or.inl (by decide)), hm2.2.2⟩
        refine Ok.bind (holds_ok hL (z1 hO4) hm3 hns) (fun y hy => ?_)
        have e8 : L.saidN (t + 1) = L.saidN t + 1 := by rw [Lt.saidN, if_neg (by rw [he]; simp)]
        have eso : L.so t = sound L.kind ns := by unfold Lt.so; rw [he]
        rw [← eso] at hy
        rw [hy]
        cases hs : L.so t with
        | false =>
          rw [if_pos (by decide)]
          refine ⟨_, rfl, nI_1 t, hO4, ?_, ?_, ?_, ?_⟩
          · show gS (gS1 q.1 0 8 (gS q.1 0 8 + 1)) 0 8 = _; rw [gS_at, o8, nI_1, e8]
          · show gS (gS1 q.1 0 8 (gS q.1 0 8 + 1)) 0 9 = _; rw [gS_ne (by decide), o9, Lt.soundN, hs]; rfl
          · show gS (gS1 q.1 0 8 (gS q.1 0 8 + 1)) 0 10 = _; rw [gS_ne (by decide), o10, Lt.bestR, hs, if_neg (fun z => by cases z.1)]
          · show gS (gS1 q.1 0 8 (gS q.1 0 8 + 1)) 0 11 = _; rw [gS_ne (by decide), o11, Lt.bestR, hs, if_neg (fun z => by cases z.1)]
        | true =>
          rw [if_neg (by decide)]
          simp only [gS_S1, gS_at]
          simp (config := { decide := true }) only [if_false, if_true, o8, o9, o10, o11, hc]
          have hcl := hL.cost_le t
          have hco := hL.costO_le (L.bestR t)
          have e9 : L.soundN (t + 1) = L.soundN t + 1 := by rw [Lt.soundN, if_pos hs]
          by_cases hlt : L.cost t < L.costO (L.bestR t)
          · have eb : L.bestR (t + 1) = some t := by rw [Lt.bestR, if_pos ⟨hs, hlt⟩]
            rw [if_neg (nI_ge hlt (by omega)), if_neg (nI_ge hlt (by omega))]
            refine ⟨_, rfl, nI_1 t, (((hO3.S1 rfl).S1 rfl).S1 rfl).S1 rfl, ?_, ?_, ?_, ?_⟩
            all_goals (simp only [gS_S1]; simp (config := { decide := true }) only [if_false, if_true])
            · rw [e8, nI_1]
            · rw [e9, nI_1]
            · rw [eb]; rfl
            · rw [eb]; rfl
          · have eb : L.bestR (t + 1) = L.bestR t := by rw [Lt.bestR, if_neg (fun z => hlt z.2)]
            rw [if_pos (nI_le (by omega) (by omega)), if_pos (nI_le (by omega) (by omega))]
            refine ⟨_, rfl, nI_1 t, (((hO3.S1 rfl).S1 rfl).S1 rfl).S1 rfl, ?_, ?_, ?_, ?_⟩
            all_goals (simp only [gS_S1]; simp (config := { decide := true }) only [if_false, if_true])
            · rw [e8, nI_1]
            · rw [e9, nI_1]
            · rw [eb]
            · rw [eb]
    · rintro ⟨G1, x⟩ ⟨hx, hO, h8, h9, h10, h11⟩
      simp only at hx hO h8 h9 h10 h11
      unfold f_X11_finds_b30
      simp only
      rw [hx, if_pos (nI_le (Nat.le_refl _) (by omega))]
      exact ⟨_, rfl, hO, h8, h9, h10, h11⟩
    · refine ⟨rfl, (((gOff.rf.S1 rfl).S1 rfl).S1 rfl).S1 rfl, ?_, ?_, ?_, ?_⟩
      all_goals (simp only [gS_S1]; simp (config := { decide := true }) only [if_false, if_true])
      · rfl
      · rfl
      · rfl
      · rfl
  · obtain ⟨hO, h8, h9, h10, h11⟩ := h1
    have e10 : gS (gS1 G1 0 13 0) 0 10 = rI (L.bestR L.N) := by rw [gS_ne (by decide)]; exact h10
    have hO1 : gOff fZ G (gS1 G1 0 13 0) := hO.S1 rfl
    rw [e10]
    cases hb : L.bestR L.N with
    | none =>
      rw [if_pos (show rI none = -4 from rfl)]
      refine ⟨_, rfl, hO1, ⟨?_, ?_, ?_, ?_, ?_⟩⟩
      · rw [gS_ne (by decide)]; exact h8
      · rw [gS_ne (by decide)]; exact h9
      · rw [hb, ← hb]; exact e10
      · rw [gS_ne (by decide)]; exact h11
      · rw [hb]; exact gS_at
    | some b =>
      have hbl := L.bestR_lt _ _ hb
      rw [if_neg (fun z => by have := (rI_m4 (some b) (fun b' hb' => by cases hb'; omega)).mp z; cases this)]
      refine Ok.bind (takes_ok hL (z1 hO1) (show b < 2 ^ 31 by omega)) (fun q hq => ?_)
      obtain ⟨hO2, hp, hc, hm⟩ := hq
      have hO3 : gOff fZ G q.1 := hO1.tr (hO2.w tzf)
      cases he : L.ev b with
      | none => have := hbl.2; unfold Lt.so at this; rw [he] at this; cases this
      | some ns =>
        rw [he] at hm
        obtain ⟨hm1, hm2⟩ := hm
        have hns : nsOk ns := hm2.ok hL (hL.pk_ok b) he
        rw [hm1, if_neg (by decide)]
        obtain ⟨g6, ga, gp, gl⟩ := hm2
        refine Ok.bind (Q := fun G2 => gOff (fun k j => decide (k = 5)) (gS1 q.1 0 13 (gS q.1 0 6)) G2 ∧ aL G2 5 0 ns) ?_ (fun G2 h2 => ?_)
        · refine Ok.up (fun i s => s.2 = nI i ∧ gOff (fun k j => decide (k = 5)) (gS1 q.1 0 13 (gS q.1 0 6)) s.1 ∧ aL s.1 5 0 (ns.take i)) ns.length (by omega) ?_ ?_ ?_
          · rintro i ⟨G2, x⟩ hi ⟨hx, hO5, ha5⟩
            simp only at hx hO5 ha5
            subst hx
            unfold f_X11_finds_b160
            simp only
            have e6 : gS G2 0 6 = nI ns.length := by rw [(hO5 0 6 rfl).1, gS_ne (by decide)]; exact g6
            have e4 : gS G2 4 i = nI (nsF ns i) := by
              rw [(hO5 4 i rfl).1, gS_ne (by omega)]
              have := nsF_aL ga hi
              rwa [Nat.zero_add] at this
            rw [e6, if_neg (nI_ge hi (by omega)), gIn_nI (by omega), decide_eq_true (by omega), nI_clamp (by omega), e4]
            refine ⟨_, rfl, nI_1 i, hO5.S1 rfl, ?_⟩
            have et : ns.take (i + 1) = ns.take i ++ [nsF ns i] := by
              rw [List.take_add_one]
              unfold nsF
              rw [List.getD_eq_getElem?_getD, List.getElem?_eq_getElem hi]
              rfl
            have el : (ns.take i).length = i := by rw [List.length_take]; omega
            show aL (gS1 G2 5 i (nI (nsF ns i))) 5 0 _
            rw [et]
            have := ha5.push (v := nsF ns i)
            rwa [Nat.zero_add, el] at this
          · rintro ⟨G2, x⟩ ⟨hx, hO5, ha5⟩
            simp only at hx hO5 ha5
            subst hx
            unfold f_X11_finds_b160
            simp only
            have e6 : gS G2 0 6 = nI ns.length := by rw [(hO5 0 6 rfl).1, gS_ne (by decide)]; exact g6
            rw [e6, if_pos (nI_le (Nat.le_refl _) (by omega))]
            rw [List.take_length] at ha5
            exact ⟨_, rfl, hO5, ha5⟩
          · exact ⟨rfl, gOff.rf, aL.nil⟩
        · obtain ⟨hO5, ha5⟩ := h2
          have hd : ∀ j, j ≠ 13 → tZ 0 j = false → gS G2 0 j = gS G1 0 j := by
            intro j hj hz
            rw [(hO5 0 j rfl).1, gS_ne (by omega), (hO2 0 j hz).1, gS_ne (by omega)]
          refine ⟨_, rfl, (hO3.S1 rfl).tr (hO5.w ?_), ⟨?_, ?_, ?_, ?_, ?_⟩⟩
          · intro k j h; simp [fZ, tZ] at h ⊢; omega
          · rw [hd 8 (by decide) rfl]; exact h8
          · rw [hd 9 (by decide) rfl]; exact h9
          · rw [hd 10 (by decide) rfl]; exact h10
          · rw [hd 11 (by decide) rfl]; exact h11
          · rw [hb]
            refine ⟨ns, he, hns, ?_, ha5⟩
            rw [(hO5 0 13 rfl).1, gS_at]; exact g6
end
section
/-! those that are counted -/
def Lt.B (L : Lt) : Option Nat := L.bestR L.N
def Lt.cnt (L : Lt) (r : Nat) : Bool := L.so r && decide (L.cost r ≤ L.costO L.B + L.slack)
def Lt.cl (L : Lt) : Nat → List Nat
  | 0 => []
  | t + 1 => if L.cnt t = true then L.cl t ++ [t] else L.cl t
def Lt.C (L : Lt) : List Nat := L.cl L.N
/-- how many of a list have a word in a slot -/
def Lt.hv (L : Lt) (l : List Nat) (k w : Nat) : Nat := l.countP (fun r => decide (L.w k (L.pk r k) = w))
def Lt.evO (L : Lt) (o : Option Nat) : Option (List Nat) := o.bind L.ev
def Lt.nx (L : Lt) : Nat → Nat
  | 0 => 9999
  | t + 1 => if L.so t = true ∧ L.cost t < L.nx t ∧ L.ev t ≠ L.evO L.B then L.cost t else L.nx t
def cZ (k j : Nat) : Bool := fZ k j || decide (k = 6 ∨ k = 7 ∨ (k = 0 ∧ (j = 14 ∨ j = 15)))
theorem Lt.cl_lt (L : Lt) : ∀ t r, r ∈ L.cl t → r < t ∧ L.cnt r = true := by
  intro t
  induction t with
  | zero => intro r h; cases h
  | succ t ih =>
    intro r h
    rw [Lt.cl] at h
    by_cases hc : L.cnt t = true
    · rw [if_pos hc, List.mem_append] at h
      rcases h with h | h
      · have := ih r h; exact ⟨by omega, this.2⟩
      · rw [List.mem_singleton] at h; subst h; exact ⟨by omega, hc⟩
    · rw [if_neg hc] at h; have := ih r h; exact ⟨by omega, this.2⟩
theorem Lt.cl_len (L : Lt) : ∀ t, (L.cl t).length ≤ t := by
  intro t
  induction t with
  | zero => exact Nat.le_refl _
  | succ t ih =>
    rw [Lt.cl]
    by_cases hc : L.cnt t = true
    · rw [if_pos hc]; simp; exact ih
    · rw [if_neg hc]; omega
theorem Lt.hv_s (L : Lt) (l : List Nat) (r k w : Nat) : L.hv (l ++ [r]) k w = L.hv l k w + if L.w k (L.pk r k) = w then 1 else 0 := by
  unfold Lt.hv
  rw [List.countP_append, List.countP_singleton]
  by_cases h : L.w k (L.pk r k) = w
  · simp [h]
  · simp [h]
theorem Lt.hv_le (L : Lt) (l : List Nat) (k w : Nat) : L.hv l k w ≤ l.length := List.countP_le_length
/-- with no best one nothing is sound -/
theorem Lt.Wf.none_so {L : Lt} (hL : L.Wf) : ∀ t, L.bestR t = none → ∀ r, r < t → L.so r = false := by
  intro t
  induction t with
  | zero => intro _ r h; omega
  | succ t ih =>
    intro hn r hr
    rw [Lt.bestR] at hn
    by_cases hc : L.so t = true ∧ L.cost t < L.costO (L.bestR t)
    · rw [if_pos hc] at hn; cases hn
    · rw [if_neg hc] at hn
      by_cases hrt : r = t
      · subst hrt
        cases hs : L.so r with
        | false => rfl
        | true =>
          exfalso
          refine hc ⟨hs, ?_⟩
          rw [hn]
          have := hL.cost_le r
          show L.cost r < 9999
          omega
      · exact ih hn r (by omega)
def cP (L : Lt) (G : gP) : Prop := (fP L G) ∧ (gS G 0 14 = nI (L.nx L.N)) ∧ (gS G 0 15 = nI L.C.length) ∧ (∀ i, i < 60 → ∀ r, L.C[i]? = some r → gS G 7 i = nI r) ∧ (∀ k w, k < L.n → w < 32 → gS G 6 (32 * k + w) = nI (L.hv L.C k w))
theorem cP.f {L : Lt} {G : gP} (h : cP L G) : (fP L G) := h.1
theorem cP.next {L : Lt} {G : gP} (h : cP L G) : (gS G 0 14 = nI (L.nx L.N)) := h.2.1
theorem cP.many {L : Lt} {G : gP} (h : cP L G) : (gS G 0 15 = nI L.C.length) := h.2.2.1
theorem cP.list {L : Lt} {G : gP} (h : cP L G) : (∀ i, i < 60 → ∀ r, L.C[i]? = some r → gS G 7 i = nI r) := h.2.2.2.1
theorem cP.have' {L : Lt} {G : gP} (h : cP L G) : (∀ k w, k < L.n → w < 32 → gS G 6 (32 * k + w) = nI (L.hv L.C k w)) := h.2.2.2.2
theorem ns_ext {a b : List Nat} (hl : a.length = b.length) (h : ∀ k, k < b.length → nsF a k = nsF b k) : a = b := by
  apply List.ext_getElem?
  intro i
  by_cases hi : i < b.length
  · have := h i hi
    unfold nsF at this
    rw [List.getD_eq_getElem?_getD, List.getD_eq_getElem?_getD, List.getElem?_eq_getElem hi, List.getElem?_eq_getElem (by omega)] at this
    rw [List.getElem?_eq_getElem hi, List.getElem?_eq_getElem (by omega)]
    exact congrArg some this
  · rw [List.getElem?_eq_none (by omega), List.getElem?_eq_none (by omega)]
/-- whether lists are alike in their first k -/
def alike (a b : List Nat) : Nat → Bool
  | 0 => decide (a.length = b.length)
  | k + 1 => alike a b k && decide (nsF a k = nsF b k)
theorem alike_iff (a b : List Nat) : ∀ k, alike a b k = true ↔ a.length = b.length ∧ ∀ j, j < k → nsF a j = nsF b j := by
  intro k
  induction k with
  | zero => unfold alike; simp
  | succ k ih =>
    rw [alike, Bool.and_eq_true, ih, decide_eq_true_eq]
    constructor
    · rintro ⟨⟨h1, h2⟩, h3⟩
      refine ⟨h1, fun j hj => ?_⟩
      by_cases e : j = k
      · subst e; exact h3
      · exact h2 j (by omega)
    · rintro ⟨h1, h2⟩
      exact ⟨⟨h1, fun j hj => h2 j (by omega)⟩, h2 k (by omega)⟩
theorem alike_eq {a b : List Nat} (h : a.length = b.length ∨ True) : alike a b b.length = decide (a = b) := by
  by_cases e : a = b
  · subst e; rw [decide_eq_true rfl]; exact (alike_iff _ _ _).mpr ⟨rfl, fun _ _ => rfl⟩
  · rw [decide_eq_false e]
    cases hc : alike a b b.length with
    | false => rfl
    | true => exact (e (by have := (alike_iff _ _ _).mp hc; exact ns_ext this.1 this.2)).elim
theorem isAsBest_ok {G : gP} {a b : List Nat} (ha : nsOk a) (hb : nsOk b) (h6 : gS G 0 6 = nI a.length) (h13 : gS G 0 13 = nI b.length) (h4 : aL G 4 0 a) (h5 : aL G 5 0 b) : Ok (f_X11_isAsBest G) (fun x => x = bI (decide (a = b))) := by
  have la := ha.2.1
  have lb := hb.2.1
  unfold f_X11_isAsBest
  simp only [gLet]
  refine Ok.bind (Q := fun x => x = bI (decide (a = b))) ?_ (fun x hx => Ok.ck (by rw [hx]; exact bI_Z _) ⟨_, rfl, hx⟩)
  rw [h6, h13]
  refine Ok.loop (fun n s => n ≤ b.length ∧ s = (bI (alike a b (b.length - n)), nI (b.length - n))) ?_ gFu b.length _ (by unfold gFu; omega) ?_
  · rintro n s ⟨hn, rfl⟩
    unfold f_X11_isAsBest_b19
    simp only
    rw [h13]
    cases hc : alike a b (b.length - n) with
    | false =>
      have hne : decide (a = b) = false := by
        apply decide_eq_false
        intro e
        subst e
        rw [(alike_iff a a (a.length - n)).mpr ⟨rfl, fun _ _ => rfl⟩] at hc
        cases hc
      by_cases h0 : n = 0
      · subst h0
        rw [if_pos (nI_le (by omega) (by omega))]
        exact ⟨_, rfl, by simp only; rw [hne]⟩
      · rw [if_neg (nI_ge (by omega) (by omega)), if_pos (by decide)]
        exact ⟨_, rfl, by simp only; rw [hne]⟩
    | true =>
      have hA := (alike_iff _ _ _).mp hc
      by_cases h0 : n = 0
      · subst h0
        rw [if_pos (nI_le (by omega) (by omega))]
        refine ⟨_, rfl, ?_⟩
        simp only
        rw [← alike_eq (Or.inr trivial)]
        rw [Nat.sub_zero] at hc
        rw [hc]
      · rw [if_neg (nI_ge (by omega) (by omega)), if_neg (by decide), gIn_nI (by omega), decide_eq_true (by omega), nI_clamp (by omega)]
        have g4 := nsF_aL h4 (j := b.length - n) (by omega)
        have g5 := nsF_aL h5 (j := b.length - n) (by omega)
        rw [Nat.zero_add] at g4 g5
        have f4 := nsF_le ha (b.length - n)
        have f5 := nsF_le hb (b.length - n)
        rw [g4, g5, nI_1]
        refine Ok.ck rfl (Ok.ck rfl ?_)
        have e1 : b.length - n + 1 = b.length - (n - 1) := by omega
        have e2 : alike a b (b.length - (n - 1)) = (alike a b (b.length - n) && decide (nsF a (b.length - n) = nsF b (b.length - n))) := by
          rw [← e1]; rfl
        by_cases he : nsF a (b.length - n) = nsF b (b.length - n)
        · rw [if_pos (nI_inj he)]
          refine ⟨_, rfl, n - 1, by omega, by omega, ?_⟩
          rw [e2, hc, decide_eq_true he, e1]; rfl
        · rw [if_neg (fun z => he ((nI_eq (by omega) (by omega)).mp z))]
          refine ⟨_, rfl, n - 1, by omega, by omega, ?_⟩
          rw [e2, hc, decide_eq_false he, e1]; rfl
  · refine ⟨Nat.le_refl _, ?_⟩
    rw [Nat.sub_self]
    congr 1
    show _ = bI (decide (a.length = b.length))
    by_cases he : a.length = b.length
    · rw [if_pos (nI_inj he), decide_eq_true he]; rfl
    · rw [if_neg (fun z => he ((nI_eq (by omega) (by omega)).mp z)), decide_eq_false he]; rfl
end
section
/-! the Model: counts -/
theorem counts_b18_ok {G : gP} : Ok (gloop f_X11_counts_b18 gFu (G, (0 : Int32))) (fun G' => gOff (fun k _ => decide (k = 6)) G G' ∧ ∀ j, j < 256 → gS G' 6 j = 0) := by
  refine Ok.up (fun i s => s.2 = nI i ∧ gOff (fun k _ => decide (k = 6)) G s.1 ∧ ∀ j, j < i → gS s.1 6 j = 0) 256 (by decide) ?_ ?_ ⟨rfl, gOff.rf, fun j hj => by omega⟩
  · rintro i ⟨G1, x⟩ hi ⟨hx, hO, hz⟩
    simp only at hx hO hz
    subst hx
    unfold f_X11_counts_b18
    simp only
    rw [nI_lit 256, if_neg (nI_ge hi (by omega)), gIn_nI (by omega), decide_eq_true hi, nI_clamp (by omega)]
    refine ⟨_, rfl, nI_1 i, hO.S1 rfl, fun j hj => ?_⟩
    show gS (gS1 G1 6 i 0) 6 j = 0
    rw [gS_S1]
    by_cases e : j = i
    · rw [if_pos ⟨rfl, e⟩]
    · rw [if_neg (fun z => e z.2)]; exact hz j (by omega)
  · rintro ⟨G1, x⟩ ⟨hx, hO, hz⟩
    simp only at hx hO hz
    unfold f_X11_counts_b18
    simp only
    rw [hx, nI_lit 256, if_pos (nI_le (Nat.le_refl _) (by decide))]
    exact ⟨_, rfl, hO, hz⟩
/-- one that is counted: its words have one more -/
theorem having_ok {f : gP × Int32 → Option ((gP × Int32) ⊕ gP)} (hf : f = f_X11_counts_b175) {G : gP} {L : Lt} (hL : L.Wf) (hR : mRow G 1 0 L) {r : Nat} (hp : mPk G L.n (L.pk r)) {l : List Nat} (hl : l.length < 2 ^ 30) (hh : ∀ k w, k < L.n → w < 32 → gS G 6 (32 * k + w) = nI (L.hv l k w)) :
    Ok (gloop f gFu (G, (0 : Int32))) (fun G' => gOff (fun k _ => decide (k = 6)) G G' ∧ ∀ k w, k < L.n → w < 32 → gS G' 6 (32 * k + w) = nI (L.hv (l ++ [r]) k w)) := by
  subst hf
  have h8 := hL.n8
  refine Ok.up (fun i s => s.2 = nI i ∧ gOff (fun k _ => decide (k = 6)) G s.1 ∧ ∀ k w, k < L.n → w < 32 → gS s.1 6 (32 * k + w) = if k < i then nI (L.hv (l ++ [r]) k w) else nI (L.hv l k w)) L.n (by omega) ?_ ?_ ?_
  · rintro i ⟨G1, x⟩ hi ⟨hx, hO, hz⟩
    simp only at hx hO hz
    subst hx
    unfold f_X11_counts_b175
    simp only
    have e1 : gS G1 1 0 = nI L.n := by rw [(hO 1 0 rfl).1]; exact hR.1
    have e2 : gS G1 2 i = nI (L.pk r i) := by rw [(hO 2 i (by simp)).1]; exact hp i hi
    have hpi := hL.pk_lt (r := r) hi
    have hm := hL.m1 i hi
    have e3 : gS G1 1 (4 + 9 * i + 1 + L.pk r i) = nI (L.w i (L.pk r i)) := by
      rw [(hO 1 _ (by simp)).1]
      have := ((hR.2.2.2.2 i hi).2 (L.pk r i) hpi).1
      have e : 4 + 9 * i + 1 + L.pk r i = 0 + 5 + 9 * i + L.pk r i := by omega
      rw [e]; exact this
    have hw := hL.w32 i (L.pk r i) hi hpi
    have hvb := L.hv_le l i (L.w i (L.pk r i))
    rw [e1, if_neg (nI_ge hi (by omega)), gIn_nI (by omega), decide_eq_true (by omega), nI_clamp (by omega), e2, at_nI, nI_lit 1, nI_add, nI_add, gIn_nI (by omega), decide_eq_true (by omega), nI_clamp (by omega), e3, nI_lit 32, pk_mul, nI_add, gIn_nI (by omega), decide_eq_true (by omega), nI_clamp (by omega), hz i _ hi hw, if_neg (Nat.lt_irrefl i), nI_add]
    refine ⟨_, rfl, nI_add i 1, hO.S1 rfl, fun k w hk hwk => ?_⟩
    show gS (gS1 G1 6 (32 * i + L.w i (L.pk r i)) _) 6 (32 * k + w) = _
    rw [gS_S1]
    by_cases e : k = i ∧ w = L.w i (L.pk r i)
    · obtain ⟨rfl, rfl⟩ := e
      rw [if_pos ⟨rfl, rfl⟩, if_pos (by omega), L.hv_s, if_pos rfl]
    · rw [if_neg (fun z => e (by have := z.2; omega)), hz k w hk hwk]
      by_cases hki : k < i
      · rw [if_pos hki, if_pos (by omega)]
      · rw [if_neg hki]
        by_cases hki2 : k = i
        · subst hki2
          rw [if_pos (by omega), L.hv_s, if_neg (fun z => e ⟨rfl, z.symm⟩)]; rfl
        · rw [if_neg (by omega)]
  · rintro ⟨G1, x⟩ ⟨hx, hO, hz⟩
    simp only at hx hO hz
    unfold f_X11_counts_b175
    simp only
    have e1 : gS G1 1 0 = nI L.n := by rw [(hO 1 0 rfl).1]; exact hR.1
    rw [hx, e1, if_pos (nI_le (Nat.le_refl _) (by omega))]
    refine ⟨_, rfl, hO, fun k w hk hw => ?_⟩
    rw [hz k w hk hw, if_pos hk]
  · refine ⟨rfl, gOff.rf, fun k w hk hw => ?_⟩
    rw [if_neg (by omega)]
    exact hh k w hk hw
theorem fP.off {Z : Nat → Nat → Bool} {L : Lt} {G G' : gP} (h : fP L G) (hO : gOff Z G G') (z0 : Z 0 8 = false ∧ Z 0 9 = false ∧ Z 0 10 = false ∧ Z 0 11 = false ∧ Z 0 13 = false) (z5 : ∀ j, Z 5 j = false) : fP L G' := by
  obtain ⟨h1, h2, h3, h4, h5⟩ := h
  refine ⟨?_, ?_, ?_, ?_, ?_⟩
  · rw [(hO 0 8 z0.1).1]; exact h1
  · rw [(hO 0 9 z0.2.1).1]; exact h2
  · rw [(hO 0 10 z0.2.2.1).1]; exact h3
  · rw [(hO 0 11 z0.2.2.2.1).1]; exact h4
  · cases hb : L.bestR L.N with
    | none => rw [hb] at h5; rw [(hO 0 13 z0.2.2.2.2).1]; exact h5
    | some b =>
      rw [hb] at h5
      obtain ⟨ns, k1, k2, k3, k4⟩ := h5
      exact ⟨ns, k1, k2, by rw [(hO 0 13 z0.2.2.2.2).1]; exact k3, fun j v hj => by rw [(hO 5 _ (z5 _)).1]; exact k4 j v hj⟩
theorem Lt.nx_le {L : Lt} (hL : L.Wf) : ∀ t, L.nx t ≤ 9999 := by
  intro t
  induction t with
  | zero => exact Nat.le_refl _
  | succ t ih =>
    rw [Lt.nx]
    split
    · have := hL.cost_le t; omega
    · exact ih
theorem counts_ok {G : gP} {L : Lt} (hL : L.Wf) (hR : mRow G 1 0 L) : Ok (f_X11_counts G) (fun G' => gOff cZ G G' ∧ cP L G') := by
  unfold f_X11_counts
  have hN := hL.N_le
  have fzc : ∀ k j, cZ k j = false → fZ k j = false := by intro k j h; unfold cZ at h; rw [Bool.or_eq_false_iff] at h; exact h.1
  have tzc : ∀ k j, cZ k j = false → tZ k j = false := by intro k j h; have := fzc k j h; unfold fZ at this; rw [Bool.or_eq_false_iff] at this; exact this.1
  have z1 : ∀ {G1 : gP}, gOff cZ G G1 → mRow G1 1 0 L := fun hO => hR.off hO (fun j => by simp [cZ, fZ, tZ])
  refine Ok.bind (finds_ok hL hR) (fun G0 h0 => ?_)
  obtain ⟨hO0, hF0⟩ := h0
  simp only [gLet]
  refine Ok.bind counts_b18_ok (fun G1 h1 => ?_)
  obtain ⟨hO1, hz⟩ := h1
  have hO1' : gOff cZ G G1 := (((hO0.w fzc).S1 rfl).S1 rfl).tr (hO1.w (fun k j h => by simp [cZ, fZ, tZ] at h ⊢; omega))
  have g15 : gS G1 0 15 = 0 := by rw [(hO1 0 15 rfl).1, gS_ne (by decide), gS_at]
  have g14 : gS G1 0 14 = 9999 := by rw [(hO1 0 14 rfl).1, gS_at]
  have hOa : gOff (fun k j => decide (k = 0 ∧ (j = 14 ∨ j = 15))) G0 (gS1 (gS1 G0 0 15 0) 0 14 9999) := (gOff.rf.S1 rfl).S1 rfl
  have hF1 : fP L G1 := (hF0.off hOa ⟨rfl, rfl, rfl, rfl, rfl⟩ (fun j => rfl)).off hO1 ⟨rfl, rfl, rfl, rfl, rfl⟩ (fun j => rfl)
  have hbest := hF1.best
  -- how many readings are gone through
  refine Ok.bind (Q := fun x => ∃ M, x = nI M ∧ M ≤ L.N ∧ (M < L.N → L.B = none) ∧ (L.B = none → M = 0)) ?_ (fun x hx => ?_)
  · rw [hbest]
    cases hb : L.bestR L.N with
    | none => rw [if_pos (show rI none = -4 from rfl)]; exact ⟨_, rfl, 0, rfl, Nat.zero_le _, fun _ => hb, fun _ => rfl⟩
    | some b =>
      have hbl := L.bestR_lt _ _ hb
      rw [if_neg (fun z => by have := (rI_m4 (some b) (fun b' hb' => by cases hb'; omega)).mp z; cases this)]
      refine Ok.bind (readings_ok hL (z1 hO1')) (fun y hy => ⟨_, rfl, L.N, hy, Nat.le_refl _, fun h => by omega, fun h => by unfold Lt.B at h; rw [hb] at h; cases h⟩)
  · obtain ⟨M, rfl, hM, hMn, hM0⟩ := hx
    -- beyond M nothing is sound
    have hMcl : L.cl M = L.C ∧ L.nx M = L.nx L.N := by
      by_cases hlt : M < L.N
      · have hb := hMn hlt
        have hM00 := hM0 hb
        have hso := hL.none_so L.N hb
        have key : ∀ t, t ≤ L.N → L.cl t = [] ∧ L.nx t = 9999 := by
          intro t
          induction t with
          | zero => intro _; exact ⟨rfl, rfl⟩
          | succ t ih =>
            intro ht
            have := ih (by omega)
            have hs := hso t (by omega)
            constructor
            · rw [Lt.cl, if_neg (by unfold Lt.cnt; rw [hs]; simp)]; exact this.1
            · rw [Lt.nx, if_neg (fun z => by rw [hs] at z; cases z.1)]; exact this.2
        have k1 := key M hM
        have k2 := key L.N (Nat.le_refl _)
        unfold Lt.C
        exact ⟨k1.1.trans k2.1.symm, k1.2.trans k2.2.symm⟩
      · have : M = L.N := by omega
        subst this
        exact ⟨rfl, rfl⟩
    refine Ok.bind (Q := fun G' => gOff cZ G G' ∧ cP L G') ?_ (fun G' h => ⟨_, rfl, h⟩)
    refine Ok.up (fun t s => s.2 = nI t ∧ gOff cZ G s.1 ∧ fP L s.1 ∧ gS s.1 0 14 = nI (L.nx t) ∧ gS s.1 0 15 = nI (L.cl t).length ∧ (∀ i, i < 60 → ∀ r, (L.cl t)[i]? = some r → gS s.1 7 i = nI r) ∧ ∀ k w, k < L.n → w < 32 → gS s.1 6 (32 * k + w) = nI (L.hv (L.cl t) k w)) M (by omega) ?_ ?_ ?_
    · rintro t ⟨G2, x⟩ ht ⟨hx, hO, hF, h14, h15, h7, h6⟩
      simp only at hx hO hF h14 h15 h7 h6
      subst hx
      unfold f_X11_counts_b58
      simp only
      rw [if_neg (nI_ge ht (by omega))]
      refine Ok.bind (takes_ok hL (z1 hO) (show t < 2 ^ 31 by omega)) (fun q hq => ?_)
      obtain ⟨hO2, hp, hc, hm⟩ := hq
      have hOq : gOff cZ G q.1 := hO.tr (hO2.w tzc)
      have hFq : fP L q.1 := hF.off hO2 ⟨rfl, rfl, rfl, rfl, rfl⟩ (fun j => rfl)
      have o14 : gS q.1 0 14 = nI (L.nx t) := by rw [(hO2 0 14 rfl).1]; exact h14
      have o15 : gS q.1 0 15 = nI (L.cl t).length := by rw [(hO2 0 15 rfl).1]; exact h15
      have o7 : ∀ i, i < 60 → ∀ r, (L.cl t)[i]? = some r → gS q.1 7 i = nI r := fun i hi r hr => by rw [(hO2 7 i rfl).1]; exact h7 i hi r hr
      have o6 : ∀ k w, k < L.n → w < 32 → gS q.1 6 (32 * k + w) = nI (L.hv (L.cl t) k w) := fun k w hk hw => by rw [(hO2 6 _ rfl).1]; exact h6 k w hk hw
      have hnx := Lt.nx_le hL t
      have hcl := hL.cost_le t
      have hlen := L.cl_len t
      -- whether it is sound
      refine Ok.bind (Q := fun y => y = bI (L.so t)) ?_ (fun y hy => ?_)
      · cases he : L.ev t with
        | none =>
          rw [he] at hm
          simp only at hm
          rw [hm, if_pos rfl]
          exact ⟨_, rfl, by unfold Lt.so; rw [he]; rfl⟩
        | some ns =>
          rw [he] at hm
          obtain ⟨hm1, hm2⟩ := hm
          rw [hm1, if_neg (by decide)]
          refine Ok.bind (holds_ok hL (z1 hOq) hm2 (hm2.ok hL (hL.pk_ok t) he)) (fun y hy => ?_)
          have eso : L.so t = sound L.kind ns := by unfold Lt.so; rw [he]
          rw [hy, ← eso]
          cases L.so t
          · rw [if_pos (by decide)]; exact ⟨_, rfl, rfl⟩
          · rw [if_neg (by decide)]; exact ⟨_, rfl, rfl⟩
      · subst hy
        -- the next cost
        refine Ok.bind (Q := fun y => y = nI (L.nx (t + 1))) ?_ (fun y hy => ?_)
        · rw [o14, hc]
          cases hs : L.so t with
          | false =>
            rw [if_pos (by decide)]
            refine ⟨_, rfl, ?_⟩
            rw [Lt.nx, hs, if_neg (fun z => by cases z.1)]
          | true =>
            rw [if_neg (by decide)]
            by_cases hlt : L.cost t < L.nx t
            · rw [if_neg (nI_ge hlt (by omega))]
              cases he : L.ev t with
              | none => unfold Lt.so at hs; rw [he] at hs; cases hs
              | some ns =>
                rw [he] at hm
                obtain ⟨hm1, hm2⟩ := hm
                have hbm := hFq.bm
                cases hb : L.bestR L.N with
                | none => have := hL.none_so L.N hb t (by omega); rw [this] at hs; cases hs
                | some b =>
                  rw [hb] at hbm
                  obtain ⟨nb, k1, k2, k3, k4⟩ := hbm
                  refine Ok.bind (isAsBest_ok (hm2.ok hL (hL.pk_ok t) he) k2 hm2.1 k3 hm2.2.1 k4) (fun y hy => ?_)
                  have eO : L.evO L.B = some nb := by unfold Lt.evO Lt.B; rw [hb]; exact k1
                  rw [hy, Lt.nx]
                  by_cases hne : ns = nb
                  · rw [decide_eq_true hne, if_neg (by decide), if_neg (fun z => z.2.2 (by rw [he, eO, hne]))]
                    exact ⟨_, rfl, rfl⟩
                  · rw [decide_eq_false hne, if_pos (by decide), if_pos ⟨hs, hlt, fun z => hne (by rw [he, eO] at z; exact Option.some.inj z)⟩]
                    exact ⟨_, rfl, rfl⟩
            · rw [if_pos (nI_le (by omega) (by omega))]
              refine ⟨_, rfl, ?_⟩
              rw [Lt.nx, if_neg (fun z => hlt z.2.1)]
        · subst hy
          have hOr : gOff cZ G (gS1 q.1 0 14 (nI (L.nx (t + 1)))) := hOq.S1 rfl
          have hFr : fP L (gS1 q.1 0 14 (nI (L.nx (t + 1)))) := hFq.off (Z := fun k j => decide (k = 0 ∧ j = 14)) (gOff.rf.S1 rfl) ⟨rfl, rfl, rfl, rfl, rfl⟩ (fun j => rfl)
          have r11 : gS (gS1 q.1 0 14 (nI (L.nx (t + 1)))) 0 11 = nI (L.costO L.B) := hFr.bc
          have r2 : gS (gS1 q.1 0 14 (nI (L.nx (t + 1)))) 1 2 = nI L.slack := (z1 hOr).2.2.1
          have r4 : gS (gS1 q.1 0 14 (nI (L.nx (t + 1)))) 0 4 = nI (L.cost t) := by rw [gS_ne (by decide)]; exact hc
          have r15 : gS (gS1 q.1 0 14 (nI (L.nx (t + 1)))) 0 15 = nI (L.cl t).length := by rw [gS_ne (by decide)]; exact o15
          have hco := hL.costO_le L.B
          have hsl := hL.s20
          simp only [gLet]
          rw [r11, r2, r4, nI_add, r15]
          have hskip : L.cnt t = false → L.cl (t + 1) = L.cl t := fun h => by rw [Lt.cl, if_neg (by rw [h]; decide)]
          have hno : L.cnt t = false → (nI t + 1 = nI (t + 1) ∧ gOff cZ G (gS1 q.1 0 14 (nI (L.nx (t + 1)))) ∧ fP L (gS1 q.1 0 14 (nI (L.nx (t + 1)))) ∧ gS (gS1 q.1 0 14 (nI (L.nx (t + 1)))) 0 14 = nI (L.nx (t + 1)) ∧ gS (gS1 q.1 0 14 (nI (L.nx (t + 1)))) 0 15 = nI (L.cl (t + 1)).length ∧ (∀ i, i < 60 → ∀ r, (L.cl (t + 1))[i]? = some r → gS (gS1 q.1 0 14 (nI (L.nx (t + 1)))) 7 i = nI r) ∧ ∀ k w, k < L.n → w < 32 → gS (gS1 q.1 0 14 (nI (L.nx (t + 1)))) 6 (32 * k + w) = nI (L.hv (L.cl (t + 1)) k w)) := by
            intro h
            rw [hskip h]
            refine ⟨nI_1 t, hOr, hFr, gS_at, r15, fun i hi r hr => ?_, fun k w hk hw => ?_⟩
            · show gS (gS1 _ _ _ _) 7 i = _
              rw [gS_ne (by omega)]; exact o7 i hi r hr
            · show gS (gS1 _ _ _ _) 6 _ = _
              rw [gS_ne (by omega)]; exact o6 k w hk hw
          cases hs : L.so t with
          | false =>
            rw [if_pos (by decide)]
            exact ⟨_, rfl, hno (by unfold Lt.cnt; rw [hs]; rfl)⟩
          | true =>
            rw [if_neg (by decide)]
            by_cases hle : L.cost t ≤ L.costO L.B + L.slack
            · have hcn : L.cnt t = true := by unfold Lt.cnt; rw [hs, decide_eq_true hle]; rfl
              have ecl : L.cl (t + 1) = L.cl t ++ [t] := by rw [Lt.cl, if_pos hcn]
              rw [if_neg (nI_nlt hle (by omega))]
              -- the list
              refine Ok.bind (Q := fun G3 => gOff cZ G G3 ∧ gOff (fun k _ => decide (k = 7)) (gS1 q.1 0 14 (nI (L.nx (t + 1)))) G3 ∧ ∀ i, i < 60 → ∀ r, (L.cl t ++ [t])[i]? = some r → gS G3 7 i = nI r) ?_ (fun G3 h3 => ?_)
              · by_cases h60 : 60 ≤ (L.cl t).length
                · rw [nI_lit 60, if_pos (nI_le h60 (by omega))]
                  refine ⟨_, rfl, hOr, gOff.rf, fun i hi r hr => ?_⟩
                  rw [gS_ne (by omega)]
                  refine o7 i hi r ?_
                  rw [List.getElem?_append_left (by omega)] at hr
                  exact hr
                · rw [nI_lit 60, if_neg (nI_ge (by omega) (by omega)), gIn_nI (by omega), decide_eq_true (by omega), nI_clamp (by omega)]
                  refine ⟨_, rfl, hOr.S1 (by simp [cZ]), gOff.rf.S1 rfl, fun i hi r hr => ?_⟩
                  rw [gS_S1]
                  by_cases hie : i = (L.cl t).length
                  · rw [if_pos ⟨rfl, hie⟩]
                    subst hie
                    rw [List.getElem?_append_right (Nat.le_refl _), Nat.sub_self] at hr
                    cases hr; rfl
                  · rw [if_neg (fun z => hie z.2), gS_ne (by omega)]
                    by_cases hi2 : i < (L.cl t).length
                    · rw [List.getElem?_append_left hi2] at hr; exact o7 i hi r hr
                    · rw [List.getElem?_eq_none (by simp; omega)] at hr; cases hr
              · obtain ⟨hO3, hO37, hl3⟩ := h3
                have s15 : gS G3 0 15 = nI (L.cl t).length := by rw [(hO37 0 15 rfl).1]; exact r15
                rw [s15, nI_1]
                have hO4 : gOff cZ G (gS1 G3 0 15 (nI ((L.cl t).length + 1))) := hO3.S1 rfl
                have hp4 : mPk (gS1 G3 0 15 (nI ((L.cl t).length + 1))) L.n (L.pk t) := fun k hk => by
                  rw [gS_ne (by omega), (hO37 2 k rfl).1, gS_ne (by omega)]; exact hp k hk
                have hh4 : ∀ k w, k < L.n → w < 32 → gS (gS1 G3 0 15 (nI ((L.cl t).length + 1))) 6 (32 * k + w) = nI (L.hv (L.cl t) k w) := fun k w hk hw => by
                  rw [gS_ne (by omega), (hO37 6 _ rfl).1, gS_ne (by omega)]; exact o6 k w hk hw
                refine Ok.bind (having_ok rfl hL (z1 hO4) hp4 (by omega) hh4) (fun G5 h5 => ?_)
                obtain ⟨hO5, hh5⟩ := h5
                refine ⟨_, rfl, nI_1 t, hO4.tr (hO5.w (fun k j h => by simp [cZ] at h ⊢; omega)), ?_, ?_, ?_, ?_, ?_⟩
                · refine ((hFr.off hO37 ⟨rfl, rfl, rfl, rfl, rfl⟩ (fun j => rfl)).off (Z := fun k j => decide (k = 0 ∧ j = 15)) (gOff.rf.S1 rfl) ⟨rfl, rfl, rfl, rfl, rfl⟩ (fun j => rfl)).off hO5 ⟨rfl, rfl, rfl, rfl, rfl⟩ (fun j => rfl)
                · show gS G5 0 14 = _
                  rw [(hO5 0 14 rfl).1, gS_ne (by decide), (hO37 0 14 rfl).1, gS_at]
                · show gS G5 0 15 = _
                  rw [(hO5 0 15 rfl).1, gS_at, ecl]
                  apply nI_inj; simp
                · intro i hi r hr
                  rw [ecl] at hr
                  show gS G5 7 i = _
                  rw [(hO5 7 i rfl).1, gS_ne (by omega)]; exact hl3 i hi r hr
                · intro k w hk hw
                  rw [ecl]
                  exact hh5 k w hk hw
            · rw [if_pos (nI_lt (by omega) (by omega))]
              exact ⟨_, rfl, hno (by unfold Lt.cnt; rw [hs, decide_eq_false hle]; rfl)⟩
    · rintro ⟨G2, x⟩ ⟨hx, hO, hF, h14, h15, h7, h6⟩
      simp only at hx hO hF h14 h15 h7 h6
      unfold f_X11_counts_b58
      simp only
      rw [hx, if_pos (nI_le (Nat.le_refl _) (by omega))]
      rw [hMcl.1] at h15 h7 h6
      rw [hMcl.2] at h14
      exact ⟨_, rfl, hO, ⟨hF, h14, h15, h7, h6⟩⟩
    · refine ⟨rfl, hO1', hF1, g14, g15, fun i hi r hr => (by cases hr), fun k w hk hw => ?_⟩
      have := hL.n8
      exact hz _ (by omega)
end
section
/-! simp rows for the ints by their number -/
def nM (a : Nat) : Int32 := -(nI a)
theorem neg_nI (a : Nat) : -(nI a) = nM a := by
  unfold nM
  exact (Eq.refl _).trans (Eq.refl _)
theorem nM_toInt {a : Nat} (h : a < 2 ^ 31) : (nM a).toInt = -(a : Int) := by
  unfold nM nI
  rw [Int32.toInt_neg]
  have : (Int32.ofNat a).toInt = a := nI_toInt h
  rw [this]
  simp only [Int.bmod]
  split <;> omega
theorem nI_ltJ {a b : Nat} (ha : a < 2 ^ 31) (hb : b < 2 ^ 31) : nI a < nI b ↔ a < b := by
  rw [Int32.lt_iff_toInt_lt, nI_toInt ha, nI_toInt hb]; omega
theorem nI_nM_eq {a b : Nat} (ha : a < 2 ^ 31) (h0 : 0 < b) (hb : b < 2 ^ 31) : nI a = nM b ↔ False := by
  rw [← Int32.toInt_inj, nI_toInt ha, nM_toInt hb, iff_false]; omega
theorem nM_nI_eq {a b : Nat} (ha : a < 2 ^ 31) (h0 : 0 < b) (hb : b < 2 ^ 31) : nM b = nI a ↔ False := by
  rw [← Int32.toInt_inj, nI_toInt ha, nM_toInt hb, iff_false]; omega
theorem nM_eq {a b : Nat} (ha : a < 2 ^ 31) (hb : b < 2 ^ 31) : nM a = nM b ↔ a = b := by
  rw [← Int32.toInt_inj, nM_toInt ha, nM_toInt hb]; omega
theorem nM_nI_le {a b : Nat} (ha : a < 2 ^ 31) (hb : b < 2 ^ 31) : nM b ≤ nI a ↔ True := by
  rw [Int32.le_iff_toInt_le, nI_toInt ha, nM_toInt hb, iff_true]; omega
theorem nI_nM_le {a b : Nat} (ha : a < 2 ^ 31) (h0 : 0 < b) (hb : b < 2 ^ 31) : nI a ≤ nM b ↔ False := by
  rw [Int32.le_iff_toInt_le, nI_toInt ha, nM_toInt hb, iff_false]; omega
theorem nM_nI_lt {a b : Nat} (ha : a < 2 ^ 31) (h0 : 0 < b) (hb : b < 2 ^ 31) : nM b < nI a ↔ True := by
  rw [Int32.lt_iff_toInt_lt, nI_toInt ha, nM_toInt hb, iff_true]; omega
theorem nI_nM_lt {a b : Nat} (ha : a < 2 ^ 31) (hb : b < 2 ^ 31) : nI a < nM b ↔ False := by
  rw [Int32.lt_iff_toInt_lt, nI_toInt ha, nM_toInt hb, iff_false]; omega
theorem gck_t {α : Type} (x : Option α) : gck true x = x := by unfold gck; exact if_pos rfl
theorem gLet_e {α β : Type} (a : α) (f : α → β) : gLet a f = f a := by
  have h : gLet a f = gLet a f := Eq.refl _
  exact h.trans (Eq.refl _)
theorem gIn_t {k n : Nat} (h : k < 2 ^ 31) (h2 : k < n) : gIn (nI k) n = true := by rw [gIn_nI h, decide_eq_true h2]
theorem nI_sub1 {n : Nat} (h : 1 ≤ n) : nI n - nI 1 = nI (n - 1) := pk_sub h
theorem ite_p {α : Type} {c : Prop} [Decidable c] {a b : α} (h : c) : (if c then a else b) = a := if_pos h
theorem ite_n {α : Type} {c : Prop} [Decidable c] {a b : α} (h : ¬ c) : (if c then a else b) = b := if_neg h
theorem iteT {α : Type} {a b : α} : (if True then a else b) = a := if_pos trivial
theorem iteF {α : Type} {a b : α} : (if False then a else b) = b := if_neg id
theorem obind_some {α β : Type} (a : α) (f : α → Option β) : (Option.some a).bind f = f a := by
  have h : (Option.some a).bind f = (Option.some a).bind f := Eq.refl _
  exact h.trans (Eq.refl _)
theorem bind_some' {α β : Type} (a : α) (f : α → Option β) : Option.bind (Option.some a) f = f a := rfl
theorem gS_ne' {G : gP} {k j a i : Nat} {v : Int32} (h : ¬ (a = k ∧ i = j)) : gS (gS1 G k j v) a i = gS G a i := gS_ne h
theorem nLit (n : Nat) : (OfNat.ofNat n : Int32) = nI n := by
  have h : nI n = nI n := Eq.refl _
  exact (nI_lit n).trans h
end
section
/-! the Model: look -/
def mx (f : Nat → Nat) : Nat → Nat
  | 0 => 0
  | n + 1 => if mx f n < f n then f n else mx f n
theorem mx_le {f : Nat → Nat} {b : Nat} : ∀ n, (∀ i, i < n → f i ≤ b) → mx f n ≤ b := by
  intro n
  induction n with
  | zero => intro _; exact Nat.zero_le _
  | succ n ih =>
    intro h
    unfold mx
    have := ih (fun i hi => h i (by omega))
    have := h n (by omega)
    split <;> omega
def lk (mo : Nat → Nat) (all : Nat) : Nat → Option Nat × Nat
  | 0 => (none, all)
  | k + 1 => if mo k < (lk mo all k).2 then (some k, mo k) else lk mo all k
theorem lk_le (mo : Nat → Nat) (all : Nat) : ∀ k, (lk mo all k).2 ≤ all := by
  intro k
  induction k with
  | zero => exact Nat.le_refl _
  | succ k ih =>
    unfold lk
    split
    · show mo k ≤ all; omega
    · exact ih
theorem look_ok {G : gP} {L : Lt} (hL : L.Wf) (hn : gS G 1 0 = nI L.n) {h : Nat → Nat → Nat} (hb : ∀ k w, h k w < 2 ^ 30) (hh : ∀ k w, k < L.n → w < 32 → gS G 6 (32 * k + w) = nI (h k w)) {all : Nat} (ha : all < 2 ^ 30) :
    Ok (f_X11_look G (nI all)) (fun r => r = rI (lk (fun k => mx (h k) 32) all L.n).1) := by
  unfold f_X11_look
  have h8 := hL.n8
  refine Ok.bind (Q := fun r => r = rI (lk (fun k => mx (h k) 32) all L.n).1) ?_ (fun a ha => ⟨_, rfl, ha⟩)
  refine Ok.up (fun k s => s = (rI (lk (fun k => mx (h k) 32) all k).1, nI (lk (fun k => mx (h k) 32) all k).2, nI k)) L.n (by omega) ?_ ?_ rfl
  · rintro k s hk rfl
    unfold f_X11_look_b8
    have hle := lk_le (fun k => mx (h k) 32) all k
    simp (disch := omega) only [nLit, neg_nI, nI_add, pk_mul, nI_sub1, nI_clamp, gIn_t, gck_t, gLet_e, nI_leI, nI_ltJ, nI_eq, nI_nM_eq, nM_nI_eq, nM_eq, nM_nI_le, nI_nM_le, nM_nI_lt, nI_nM_lt, at_nI, gS_at, gS_ne', obind_some, iteT, iteF, ite_p, ite_n, hn]
    refine Ok.bind (Q := fun x => x = nI (mx (h k) 32)) ?_ (fun x hx => ?_)
    · refine Ok.up (fun w s => s = (nI (mx (h k) w), nI w)) 32 (by decide) ?_ ?_ rfl
      · rintro w s hw rfl
        unfold f_X11_look_b25
        have hm : mx (h k) w ≤ 2 ^ 30 := mx_le w (fun i _ => Nat.le_of_lt (hb k i))
        have hv := hb k w
        simp (disch := omega) only [nLit, neg_nI, nI_add, pk_mul, nI_sub1, nI_clamp, gIn_t, gck_t, gLet_e, nI_leI, nI_ltJ, nI_eq, nI_nM_eq, nM_nI_eq, nM_eq, nM_nI_le, nI_nM_le, nM_nI_lt, nI_nM_lt, at_nI, gS_at, gS_ne', obind_some, iteT, iteF, ite_p, ite_n, hh k w hk hw]
        by_cases hc : h k w ≤ mx (h k) w
        · simp (disch := omega) only [nLit, neg_nI, nI_add, pk_mul, nI_sub1, nI_clamp, gIn_t, gck_t, gLet_e, nI_leI, nI_ltJ, nI_eq, nI_nM_eq, nM_nI_eq, nM_eq, nM_nI_le, nI_nM_le, nM_nI_lt, nI_nM_lt, at_nI, gS_at, gS_ne', obind_some, iteT, iteF, ite_p, ite_n]; exact ⟨_, rfl, by simp only [mx]; simp (disch := omega) only [nLit, neg_nI, nI_add, pk_mul, nI_sub1, nI_clamp, gIn_t, gck_t, gLet_e, nI_leI, nI_ltJ, nI_eq, nI_nM_eq, nM_nI_eq, nM_eq, nM_nI_le, nI_nM_le, nM_nI_lt, nI_nM_lt, at_nI, gS_at, gS_ne', obind_some, iteT, iteF, ite_p, ite_n]⟩
        · simp (disch := omega) only [nLit, neg_nI, nI_add, pk_mul, nI_sub1, nI_clamp, gIn_t, gck_t, gLet_e, nI_leI, nI_ltJ, nI_eq, nI_nM_eq, nM_nI_eq, nM_eq, nM_nI_le, nI_nM_le, nM_nI_lt, nI_nM_lt, at_nI, gS_at, gS_ne', obind_some, iteT, iteF, ite_p, ite_n]; exact ⟨_, rfl, by simp only [mx]; simp (disch := omega) only [nLit, neg_nI, nI_add, pk_mul, nI_sub1, nI_clamp, gIn_t, gck_t, gLet_e, nI_leI, nI_ltJ, nI_eq, nI_nM_eq, nM_nI_eq, nM_eq, nM_nI_le, nI_nM_le, nM_nI_lt, nI_nM_lt, at_nI, gS_at, gS_ne', obind_some, iteT, iteF, ite_p, ite_n]⟩
      · rintro s rfl
        unfold f_X11_look_b25
        simp (disch := omega) only [nLit, neg_nI, nI_add, pk_mul, nI_sub1, nI_clamp, gIn_t, gck_t, gLet_e, nI_leI, nI_ltJ, nI_eq, nI_nM_eq, nM_nI_eq, nM_eq, nM_nI_le, nI_nM_le, nM_nI_lt, nI_nM_lt, at_nI, gS_at, gS_ne', obind_some, iteT, iteF, ite_p, ite_n]
        exact ⟨_, rfl, rfl⟩
    · subst hx
      have hm : mx (h k) 32 ≤ 2 ^ 30 := mx_le 32 (fun i _ => Nat.le_of_lt (hb k i))
      by_cases hc : mx (h k) 32 < (lk (fun k => mx (h k) 32) all k).2
      · simp (disch := omega) only [nLit, neg_nI, nI_add, pk_mul, nI_sub1, nI_clamp, gIn_t, gck_t, gLet_e, nI_leI, nI_ltJ, nI_eq, nI_nM_eq, nM_nI_eq, nM_eq, nM_nI_le, nI_nM_le, nM_nI_lt, nI_nM_lt, at_nI, gS_at, gS_ne', obind_some, iteT, iteF, ite_p, ite_n]; exact ⟨_, rfl, by simp only [lk]; simp (disch := omega) only [nLit, neg_nI, nI_add, pk_mul, nI_sub1, nI_clamp, gIn_t, gck_t, gLet_e, nI_leI, nI_ltJ, nI_eq, nI_nM_eq, nM_nI_eq, nM_eq, nM_nI_le, nI_nM_le, nM_nI_lt, nI_nM_lt, at_nI, gS_at, gS_ne', obind_some, iteT, iteF, ite_p, ite_n]; rfl⟩
      · simp (disch := omega) only [nLit, neg_nI, nI_add, pk_mul, nI_sub1, nI_clamp, gIn_t, gck_t, gLet_e, nI_leI, nI_ltJ, nI_eq, nI_nM_eq, nM_nI_eq, nM_eq, nM_nI_le, nI_nM_le, nM_nI_lt, nI_nM_lt, at_nI, gS_at, gS_ne', obind_some, iteT, iteF, ite_p, ite_n]; exact ⟨_, rfl, by simp only [lk]; simp (disch := omega) only [nLit, neg_nI, nI_add, pk_mul, nI_sub1, nI_clamp, gIn_t, gck_t, gLet_e, nI_leI, nI_ltJ, nI_eq, nI_nM_eq, nM_nI_eq, nM_eq, nM_nI_le, nI_nM_le, nM_nI_lt, nI_nM_lt, at_nI, gS_at, gS_ne', obind_some, iteT, iteF, ite_p, ite_n]⟩
  · rintro s rfl
    unfold f_X11_look_b8
    simp (disch := omega) only [nLit, neg_nI, nI_add, pk_mul, nI_sub1, nI_clamp, gIn_t, gck_t, gLet_e, nI_leI, nI_ltJ, nI_eq, nI_nM_eq, nM_nI_eq, nM_eq, nM_nI_le, nI_nM_le, nM_nI_lt, nI_nM_lt, at_nI, gS_at, gS_ne', obind_some, iteT, iteF, ite_p, ite_n, hn]
    exact ⟨_, rfl, rfl⟩
end
section
/-! arguments by their number; the Model: best, taken, open, counted -/
/-- an argument in a range: its number -/
def rg (a : Int32) (lo hi : Nat) : Option Nat := if (lo : Int) ≤ a.toInt ∧ a.toInt < (hi : Int) then some a.toInt.toNat else none
theorem nJ_of {a : Int32} {k : Nat} (h : a.toInt = (k : Int)) : a = nI k := by
  have hk : k < 2 ^ 31 := by have := a.toInt_lt; omega
  rw [← Int32.toInt_inj, nI_toInt hk, h]
theorem rg_some {a : Int32} {lo hi k : Nat} (h : rg a lo hi = some k) : lo ≤ k ∧ k < hi ∧ a = nI k := by
  unfold rg at h
  split at h
  · cases h
    refine ⟨by omega, by omega, nJ_of (by omega)⟩
  · cases h
theorem rg_nI {lo hi k : Nat} (hk : k < 2 ^ 31) : rg (nI k) lo hi = if lo ≤ k ∧ k < hi then some k else none := by
  unfold rg
  rw [nI_toInt hk]
  by_cases h : lo ≤ k ∧ k < hi
  · rw [if_pos h, if_pos (by omega)]; rfl
  · rw [if_neg h, if_neg (by omega)]
theorem in_rg (a : Int32) {x y : Int64} {lo hi : Nat} (hx : x.toInt = (lo : Int)) (hy : y.toInt = (hi : Int) - 1) : f_X11_in a.toInt64 x y = if (rg a lo hi).isSome then 1 else 0 := by
  unfold f_X11_in rg
  simp only [Int64.lt_iff_toInt_lt, Int32.toInt_toInt64, hx, hy]
  by_cases h : (lo : Int) ≤ a.toInt ∧ a.toInt < (hi : Int)
  · rw [if_pos h, if_neg (by omega), if_neg (by omega)]; rfl
  · rw [if_neg h]
    by_cases h2 : a.toInt < (lo : Int)
    · rw [if_pos h2]; rfl
    · rw [if_neg h2, if_pos (by omega)]; rfl
theorem nI1_toInt64 {n : Nat} (h : n < 2 ^ 30) : (nI n - 1).toInt64.toInt = (n : Int) - 1 := by
  rw [Int32.toInt_toInt64]
  exact pk_sub_toInt (a := n) (b := 1) h (by decide)
theorem isSlot_rg {G : gP} {n : Nat} (hn : n ≤ 8) (h : gS G 1 0 = nI n) (a : Int32) : f_X11_isSlot G a = if (rg a 0 n).isSome then 1 else 0 := by
  unfold f_X11_isSlot
  rw [h]
  exact in_rg a rfl (nI1_toInt64 (Nat.lt_of_le_of_lt hn (by decide)))
/-- the best one's numbers -/
def Lt.bn (L : Lt) : List Nat := (L.evO L.B).getD []
theorem Lt.bn_none {L : Lt} (h : L.B = none) : L.bn = [] := by unfold Lt.bn Lt.evO; rw [h]; rfl
theorem Lt.bn_some {L : Lt} {b : Nat} {ns : List Nat} (h : L.B = some b) (he : L.ev b = some ns) : L.bn = ns := by unfold Lt.bn Lt.evO; rw [h]; show (L.ev b).getD [] = ns; rw [he]; rfl
theorem fP.bn {L : Lt} {G : gP} (h : fP L G) : gS G 0 13 = nI L.bn.length ∧ aL G 5 0 L.bn ∧ L.bn.length ≤ 8 ∧ ∀ v ∈ L.bn, v ≤ 999999 := by
  have h5 := h.bm
  cases hb : L.bestR L.N with
  | none => rw [hb] at h5; rw [L.bn_none hb]; exact ⟨h5, aL.nil, by decide, fun v hv => by cases hv⟩
  | some b =>
    rw [hb] at h5
    obtain ⟨ns, k1, k2, k3, k4⟩ := h5
    rw [L.bn_some hb k1]; exact ⟨k3, k4, k2.2.1, k2.2.2⟩
theorem Lt.B_lt {L : Lt} {b : Nat} (h : L.B = some b) : b < L.N ∧ L.so b = true := L.bestR_lt _ _ h
theorem Lt.so_ev {L : Lt} {r : Nat} (h : L.so r = true) : ∃ ns, L.ev r = some ns ∧ sound L.kind ns = true := by
  unfold Lt.so at h
  cases he : L.ev r with
  | none => rw [he] at h; cases h
  | some ns => rw [he] at h; exact ⟨ns, rfl, h⟩
/-- the scratch of the Model's questions -/
def qZ (k j : Nat) : Bool := decide (2 ≤ k ∧ k ≤ 10 ∨ k = 0 ∧ (j = 3 ∨ j = 4 ∨ j = 6 ∨ j = 7 ∨ j = 8 ∨ j = 9 ∨ j = 10 ∨ j = 11 ∨ j = 13 ∨ j = 14 ∨ j = 15 ∨ j = 21))
theorem qZ_t {k j : Nat} (h : qZ k j = false) : tZ k j = false := by simp [qZ, tZ] at h ⊢; omega
theorem qZ_f {k j : Nat} (h : qZ k j = false) : fZ k j = false := by simp [qZ, fZ, tZ] at h ⊢; omega
theorem qZ_c {k j : Nat} (h : qZ k j = false) : cZ k j = false := by simp [qZ, cZ, fZ, tZ] at h ⊢; omega
theorem mRow.q {G G' : gP} {L : Lt} (h : mRow G 1 0 L) (hO : gOff qZ G G') : mRow G' 1 0 L := h.off hO (fun j => by simp [qZ])
def sBest (L : Lt) (a : Int32) : Int32 := if (-2 : Int32) ≤ a then (match L.B with
  | none => -4
  | some b => if a = -1 then nI (L.cost b) else if a = -2 then nI L.bn.length else match rg a 0 L.bn.length with
    | none => -4
    | some k => nI (nsF L.bn k)) else -1
theorem rI_none : rI none = -4 := rfl
theorem rI_ne {b : Nat} (h : b < 2 ^ 31) : rI (some b) ≠ -4 := fun z => by have := (rI_m4 (some b) (fun b' hb' => by cases hb'; omega)).mp z; cases this
theorem best_ok {G : gP} {L : Lt} (hL : L.Wf) (hR : mRow G 1 0 L) (a : Int32) : Ok (f_X11_best G a) (fun q => gOff qZ G q.1 ∧ q.2 = sBest L a) := by
  unfold f_X11_best sBest
  by_cases h2 : (-2 : Int32) ≤ a
  · rw [if_pos h2, if_pos h2]
    refine Ok.bind (finds_ok hL hR) (fun G1 h1 => ?_)
    obtain ⟨hO, hF⟩ := h1
    have hO' := hO.w (fun k j => qZ_f)
    have hN := hL.N_le
    rw [hF.best, hF.bc, hF.bn.1]
    show Ok _ _
    cases hb : L.B with
    | none => unfold Lt.B at hb; rw [hb, rI_none, if_pos rfl]; exact ⟨_, rfl, hO', rfl⟩
    | some b =>
      have hbl := L.B_lt hb
      unfold Lt.B at hb
      rw [hb, if_neg (rI_ne (by omega))]
      by_cases e1 : a = -1
      · rw [if_pos e1]; exact ⟨_, rfl, hO', by simp only; rw [if_pos e1]; rfl⟩
      · rw [if_neg e1]
        by_cases e2 : a = -2
        · rw [if_pos e2]; exact ⟨_, rfl, hO', by simp only; rw [if_neg e1, if_pos e2]⟩
        · rw [if_neg e2]
          have h8 := hF.bn.2.2.1
          have ha0 : 0 ≤ a.toInt := by
            have x1 := Int32.le_iff_toInt_le.mp h2
            have x2 : a.toInt ≠ -1 := fun z => e1 (Int32.toInt_inj.mp (z.trans (by decide)))
            have x3 : a.toInt ≠ -2 := fun z => e2 (Int32.toInt_inj.mp (z.trans (by decide)))
            have x4 : ((-2 : Int32)).toInt = -2 := by decide
            omega
          have hra : a = nI a.toInt.toNat := nJ_of (by omega)
          have hal : a.toInt.toNat < 2 ^ 31 := by have := a.toInt_lt; omega
          generalize a.toInt.toNat = k at *
          subst hra
          simp only [rg_nI hal, e1, e2, if_false]
          by_cases hk : k < L.bn.length
          · have e5 := nsF_aL hF.bn.2.1 hk
            rw [Nat.zero_add] at e5
            simp (disch := omega) only [nLit, neg_nI, nI_add, pk_mul, nI_sub1, nI_clamp, gIn_t, gck_t, gLet_e, nI_leI, nI_ltJ, nI_eq, nI_nM_eq, nM_nI_eq, nM_eq, nM_nI_le, nI_nM_le, nM_nI_lt, nI_nM_lt, at_nI, gS_at, gS_ne', obind_some, iteT, iteF, ite_p, ite_n, e5]; exact ⟨_, rfl, hO', rfl⟩
          · simp (disch := omega) only [nLit, neg_nI, nI_add, pk_mul, nI_sub1, nI_clamp, gIn_t, gck_t, gLet_e, nI_leI, nI_ltJ, nI_eq, nI_nM_eq, nM_nI_eq, nM_eq, nM_nI_le, nI_nM_le, nM_nI_lt, nI_nM_lt, at_nI, gS_at, gS_ne', obind_some, iteT, iteF, ite_p, ite_n]; exact ⟨_, rfl, hO', rfl⟩
  · rw [if_neg h2, if_neg h2]; exact ⟨_, rfl, gOff.rf, rfl⟩
def sTaken (L : Lt) (a : Int32) : Int32 := match rg a 0 L.n with
  | none => -1
  | some k => match L.B with
    | none => -4
    | some b => nI (L.w k (L.pk b k))
theorem taken_ok {G : gP} {L : Lt} (hL : L.Wf) (hR : mRow G 1 0 L) (a : Int32) : Ok (f_X11_taken G a) (fun q => gOff qZ G q.1 ∧ q.2 = sTaken L a) := by
  unfold f_X11_taken sTaken
  have h8 := hL.n8
  rw [isSlot_rg hL.n8 hR.1]
  cases ha : rg a 0 L.n with
  | none => exact ⟨_, rfl, gOff.rf, rfl⟩
  | some k =>
    obtain ⟨-, hk, rfl⟩ := rg_some ha
    simp only [Option.isSome_some, if_true]
    rw [if_neg (by decide)]
    refine Ok.bind (finds_ok hL hR) (fun G1 h1 => ?_)
    obtain ⟨hO, hF⟩ := h1
    have hO' := hO.w (fun k j => qZ_f)
    have hN := hL.N_le
    rw [hF.best]
    cases hb : L.B with
    | none => unfold Lt.B at hb; rw [hb, rI_none, if_pos rfl]; exact ⟨_, rfl, hO', rfl⟩
    | some b =>
      have hbl := L.B_lt hb
      unfold Lt.B at hb
      rw [hb, if_neg (rI_ne (by omega))]
      refine Ok.bind (takes_ok hL (hR.q hO') (show b < 2 ^ 31 by omega)) (fun q hq => ?_)
      obtain ⟨hO2, hp, hc, hm⟩ := hq
      have hO3 := hO'.tr (hO2.w (fun k j => qZ_t))
      obtain ⟨ns, he, -⟩ := L.so_ev hbl.2
      rw [he] at hm
      rw [hm.1, if_neg (by decide)]
      have hpl := hL.pk_lt (r := b) hk
      have hm4 := hL.m1 k hk
      have e1 := (((hR.q hO3).2.2.2.2 k hk).2 _ hpl).1
      rw [show 0 + 5 + 9 * k + L.pk b k = 4 + 9 * k + 1 + L.pk b k by omega] at e1
      simp (disch := omega) only [nLit, neg_nI, nI_add, pk_mul, nI_sub1, nI_clamp, gIn_t, gck_t, gLet_e, nI_leI, nI_ltJ, nI_eq, nI_nM_eq, nM_nI_eq, nM_eq, nM_nI_le, nI_nM_le, nM_nI_lt, nI_nM_lt, at_nI, gS_at, gS_ne', obind_some, iteT, iteF, ite_p, ite_n, hp k hk, e1]
      exact ⟨_, rfl, hO3, rfl⟩
def sCounted (L : Lt) (a w : Int32) : Int32 := if a < 0 then -1 else match rg w 0 2 with
  | none => -1
  | some w => match L.C[a.toInt.toNat]? with
    | none => -4
    | some r => if w = 0 then nI (L.cost r) else nI (((L.ev r).getD []).getLastD 0)
theorem isCounted_ok {G : gP} {L : Lt} (hL : L.Wf) (hR : mRow G 1 0 L) (hF : fP L G) {r : Nat} (hr : r < 2 ^ 31) : Ok (f_X11_isCounted G (nI r)) (fun q => gOff tZ G q.1 ∧ q.2 = bI (L.cnt r) ∧ (L.cnt r = true → gS q.1 0 4 = nI (L.cost r) ∧ ∃ ns, L.ev r = some ns ∧ mTk q.1 L (L.pk r) ns ∧ nsOk ns)) := by
  unfold f_X11_isCounted
  refine Ok.bind (takes_ok hL hR hr) (fun q hq => ?_)
  obtain ⟨hO2, hp, hc, hm⟩ := hq
  cases he : L.ev r with
  | none =>
    rw [he] at hm
    have e : L.cnt r = false := by unfold Lt.cnt Lt.so; rw [he]; rfl
    simp only at hm
    rw [hm, if_pos rfl]
    exact ⟨_, rfl, hO2, by rw [e]; rfl, fun z => by rw [e] at z; cases z⟩
  | some ns =>
    rw [he] at hm
    obtain ⟨hm1, hm2⟩ := hm
    rw [hm1, if_neg (by decide)]
    have hok := hm2.ok hL (hL.pk_ok r) he
    refine Ok.bind (holds_ok hL (hR.off hO2 (fun _ => by simp [tZ])) hm2 hok) (fun y hy => ?_)
    have eso : L.so r = sound L.kind ns := by unfold Lt.so; rw [he]
    rw [hy, ← eso, (hO2 0 11 rfl).1, hF.bc, (hO2 1 2 rfl).1, hR.2.2.1, hc]
    have h1 := hL.cost_le r
    have h2 := hL.costO_le L.B
    have h3 := hL.s20
    show Ok (if bI (L.so r) = 0 then _ else if nI (L.costO L.B) + nI L.slack < nI (L.cost r) then _ else _) _
    cases hs : L.so r with
    | false =>
      rw [if_pos (by decide)]
      have e : L.cnt r = false := by unfold Lt.cnt; rw [hs]; rfl
      exact ⟨_, rfl, hO2, by rw [e]; rfl, fun z => by rw [e] at z; cases z⟩
    | true =>
      rw [if_neg (by decide)]
      by_cases hle : L.cost r ≤ L.costO L.B + L.slack
      · have e : L.cnt r = true := by unfold Lt.cnt; rw [hs, decide_eq_true hle]; rfl
        simp (disch := omega) only [nLit, neg_nI, nI_add, pk_mul, nI_sub1, nI_clamp, gIn_t, gck_t, gLet_e, nI_leI, nI_ltJ, nI_eq, nI_nM_eq, nM_nI_eq, nM_eq, nM_nI_le, nI_nM_le, nM_nI_lt, nI_nM_lt, at_nI, gS_at, gS_ne', obind_some, iteT, iteF, ite_p, ite_n]; exact ⟨_, rfl, hO2, by rw [e]; rfl, fun _ => ⟨hc, ns, rfl, hm2, hok⟩⟩
      · have e : L.cnt r = false := by unfold Lt.cnt; rw [hs, decide_eq_false hle]; rfl
        simp (disch := omega) only [nLit, neg_nI, nI_add, pk_mul, nI_sub1, nI_clamp, gIn_t, gck_t, gLet_e, nI_leI, nI_ltJ, nI_eq, nI_nM_eq, nM_nI_eq, nM_eq, nM_nI_le, nI_nM_le, nM_nI_lt, nI_nM_lt, at_nI, gS_at, gS_ne', obind_some, iteT, iteF, ite_p, ite_n]; exact ⟨_, rfl, hO2, by rw [e]; rfl, fun z => by rw [e] at z; cases z⟩
theorem Lt.C_none {L : Lt} (hL : L.Wf) (h : L.B = none) : L.C = [] := by
  have hso := hL.none_so L.N h
  have key : ∀ t, t ≤ L.N → L.cl t = [] := by
    intro t
    induction t with
    | zero => intro _; rfl
    | succ t ih =>
      intro ht
      rw [Lt.cl, if_neg (by unfold Lt.cnt; rw [hso t (by omega)]; simp)]; exact ih (by omega)
  exact key _ (Nat.le_refl _)
theorem Lt.cl_pre (L : Lt) : ∀ d t, L.cl t <+: L.cl (t + d) := by
  intro d t
  induction d with
  | zero => exact List.prefix_refl _
  | succ d ih =>
    refine ih.trans ?_
    show L.cl (t + d) <+: (if L.cnt (t + d) = true then L.cl (t + d) ++ [t + d] else L.cl (t + d))
    split
    · exact List.prefix_append _ _
    · exact List.prefix_refl _
theorem counted_ok {G : gP} {L : Lt} (hL : L.Wf) (hR : mRow G 1 0 L) (a w : Int32) : Ok (f_X11_counted G a w) (fun q => gOff qZ G q.1 ∧ q.2 = sCounted L a w) := by
  unfold f_X11_counted sCounted
  by_cases h0 : a < 0
  · rw [if_pos h0, if_pos h0]; exact ⟨_, rfl, gOff.rf, rfl⟩
  · rw [if_neg h0, if_neg h0, in_rg w (lo := 0) (hi := 2) rfl rfl]
    cases hw : rg w 0 2 with
    | none => exact ⟨_, rfl, gOff.rf, rfl⟩
    | some wn =>
      obtain ⟨-, hwn, rfl⟩ := rg_some hw
      simp only [Option.isSome_some, if_true]
      rw [if_neg (by decide)]
      have ha0 : 0 ≤ a.toInt := by
        have x1 : ¬ a.toInt < (0 : Int32).toInt := fun z => h0 (Int32.lt_iff_toInt_lt.mpr z)
        have x4 : ((0 : Int32)).toInt = 0 := by decide
        omega
      have hra : a = nI a.toInt.toNat := nJ_of (by omega)
      have hal : a.toInt.toNat < 2 ^ 31 := by have := a.toInt_lt; omega
      generalize a.toInt.toNat = k at *
      subst hra
      refine Ok.bind (finds_ok hL hR) (fun G1 h1 => ?_)
      obtain ⟨hO, hF⟩ := h1
      have hO' := hO.w (fun k j => qZ_f)
      have hN := hL.N_le
      refine Ok.bind (Q := fun x => ∃ M, x = nI M ∧ M ≤ L.N ∧ L.cl M = L.C) ?_ (fun x hx => ?_)
      · rw [hF.best]
        cases hb : L.B with
        | none =>
          have hC := L.C_none hL hb
          unfold Lt.B at hb; rw [hb, rI_none, if_pos rfl]; exact ⟨_, rfl, 0, rfl, Nat.zero_le _, hC.symm⟩
        | some b =>
          have hbl := L.B_lt hb
          unfold Lt.B at hb
          rw [hb, if_neg (rI_ne (by omega))]
          exact Ok.bind (readings_ok hL (hR.q hO')) (fun y hy => ⟨_, rfl, L.N, hy, Nat.le_refl _, rfl⟩)
      · obtain ⟨M, rfl, hM, hMC⟩ := hx
        refine Ok.bind (Q := fun z => match z with
          | .inl G2 => gOff qZ G G2 ∧ L.C[k]? = none
          | .inr q => gOff qZ G q.1 ∧ ∃ r, L.C[k]? = some r ∧ q.2 = if wn = 0 then nI (L.cost r) else nI (((L.ev r).getD []).getLastD 0)) ?_ (fun z hz => ?_)
        · refine Ok.loop (fun n s => n ≤ M ∧ gOff qZ G s.1 ∧ fP L s.1 ∧ (L.cl (M - n)).length ≤ k ∧ s.2 = (nI (L.cl (M - n)).length, nI (M - n))) ?_ gFu M _ (by unfold gFu; omega) ⟨Nat.le_refl _, hO', hF, ?_, ?_⟩
          · rintro n ⟨G2, x⟩ ⟨hn, hO2, hF2, hlen, hx⟩
            simp only at hx hO2 hF2
            subst hx
            unfold f_X11_counted_b44
            simp only
            by_cases hn0 : n = 0
            · subst hn0
              rw [Nat.sub_zero, hMC] at hlen
              simp (disch := omega) only [nLit, neg_nI, nI_add, pk_mul, nI_sub1, nI_clamp, gIn_t, gck_t, gLet_e, nI_leI, nI_ltJ, nI_eq, nI_nM_eq, nM_nI_eq, nM_eq, nM_nI_le, nI_nM_le, nM_nI_lt, nI_nM_lt, at_nI, gS_at, gS_ne', obind_some, iteT, iteF, ite_p, ite_n]; exact ⟨_, rfl, hO2, List.getElem?_eq_none hlen⟩
            · simp (disch := omega) only [nLit, neg_nI, nI_add, pk_mul, nI_sub1, nI_clamp, gIn_t, gck_t, gLet_e, nI_leI, nI_ltJ, nI_eq, nI_nM_eq, nM_nI_eq, nM_eq, nM_nI_le, nI_nM_le, nM_nI_lt, nI_nM_lt, at_nI, gS_at, gS_ne', obind_some, iteT, iteF, ite_p, ite_n]
              refine Ok.bind (isCounted_ok hL (hR.q hO2) hF2 (show M - n < 2 ^ 31 by omega)) (fun q hq => ?_)
              obtain ⟨hO3, hq2, hq3⟩ := hq
              have hO4 := hO2.tr (hO3.w (fun k j => qZ_t))
              have hF3 : fP L q.1 := hF2.off hO3 ⟨rfl, rfl, rfl, rfl, rfl⟩ (fun j => rfl)
              have e1 : M - n + 1 = M - (n - 1) := by omega
              have ecl : L.cl (M - (n - 1)) = if L.cnt (M - n) = true then L.cl (M - n) ++ [M - n] else L.cl (M - n) := by rw [← e1]; rfl
              rw [hq2]
              cases hc : L.cnt (M - n) with
              | false =>
                rw [hc, if_neg (by decide)] at ecl
                rw [if_pos (by decide)]
                refine ⟨_, rfl, n - 1, by omega, by omega, hO4, hF3, ?_, ?_⟩
                · rw [ecl]; exact hlen
                · rw [ecl, ← e1]
              | true =>
                rw [hc, if_pos rfl] at ecl
                rw [if_neg (by decide)]
                obtain ⟨hcs, ns, he, htk, hok⟩ := hq3 hc
                have hll := L.cl_len (M - n)
                by_cases hk : (L.cl (M - n)).length = k
                · have hCk : L.C[k]? = some (M - n) := by
                    have hpre : L.cl (M - (n - 1)) <+: L.C := by
                      rw [← hMC]
                      have := L.cl_pre (n - 1) (M - (n - 1))
                      rwa [show M - (n - 1) + (n - 1) = M by omega] at this
                    obtain ⟨t, ht⟩ := hpre
                    rw [← ht, ecl, List.append_assoc, ← hk, List.getElem?_append_right (Nat.le_refl _), Nat.sub_self]
                    rfl
                  rw [if_pos (by rw [hk])]
                  by_cases hw0 : wn = 0
                  · subst hw0
                    rw [if_pos (by decide)]
                    exact ⟨_, rfl, hO4, _, hCk, hcs⟩
                  · have hl8 := hok.2.1
                    have hl1 := hok.1
                    rw [if_neg hw0, htk.1]
                    have e5 := nsF_aL htk.2.1 (j := ns.length - 1) (by omega)
                    rw [Nat.zero_add] at e5
                    simp (disch := omega) only [nLit, neg_nI, nI_add, pk_mul, nI_sub1, nI_clamp, gIn_t, gck_t, gLet_e, nI_leI, nI_ltJ, nI_eq, nI_nM_eq, nM_nI_eq, nM_eq, nM_nI_le, nI_nM_le, nM_nI_lt, nI_nM_lt, at_nI, gS_at, gS_ne', obind_some, iteT, iteF, ite_p, ite_n, e5]
                    refine ⟨_, rfl, hO4, _, hCk, ?_⟩
                    simp only
                    rw [he]
                    apply nI_inj
                    show nsF ns (ns.length - 1) = ns.getLastD 0
                    unfold nsF
                    rw [List.getD_eq_getElem?_getD, List.getLastD_eq_getLast?, List.getLast?_eq_getElem?]
                · rw [if_neg hk]
                  refine ⟨_, rfl, n - 1, by omega, by omega, hO4, hF3, ?_, ?_⟩
                  · rw [ecl]; simp; omega
                  · rw [ecl, ← e1]; simp only [nI_1, List.length_append, List.length_singleton]
          · rw [Nat.sub_self]; exact Nat.zero_le _
          · rw [Nat.sub_self]; rfl
        · cases z with
          | inl G2 => exact ⟨_, rfl, hz.1, by rw [hz.2]⟩
          | inr q =>
            obtain ⟨h1, r, h2, h3⟩ := hz
            exact ⟨_, rfl, h1, by rw [h2]; exact h3⟩
end
section
/-! sets by bits -/
def bt (x : Int64) (t : Nat) : Bool := x.toBitVec.getLsbD t
theorem bt_ext {x y : Int64} (h : ∀ t, t < 64 → bt x t = bt y t) : x = y := by
  apply Int64.toBitVec_inj.mp
  apply BitVec.eq_of_getLsbD_eq
  intro i hi
  exact h i hi
theorem bt_or (x y : Int64) (t : Nat) : bt (x ||| y) t = (bt x t || bt y t) := by unfold bt; simp
theorem bt_0 (t : Nat) : bt 0 t = false := by unfold bt; simp
theorem sh_b {t : Nat} (h : t < 64) : ((nI t).toInt64 &&& 63).toBitVec.smod 64#64 = BitVec.ofNat 64 t := by
  have key : ∀ t : Fin 64, ((nI t.val).toInt64 &&& 63).toBitVec.smod 64#64 = BitVec.ofNat 64 t.val := by decide
  exact key ⟨t, h⟩
theorem shl_b (x : Int64) {t : Nat} (h : t < 64) : (gShlL x (nI t)).toBitVec = x.toBitVec <<< t := by
  unfold gShlL
  show x.toBitVec <<< (((nI t).toInt64 &&& 63).toBitVec.smod 64#64) = _
  rw [sh_b h, BitVec.shiftLeft_eq', BitVec.toNat_ofNat]
  rw [Nat.mod_eq_of_lt (by omega)]
theorem shr_b (x : Int64) {t : Nat} (h : t < 64) : (gShrL x (nI t)).toBitVec = x.toBitVec.sshiftRight t := by
  unfold gShrL
  show x.toBitVec.sshiftRight' (((nI t).toInt64 &&& 63).toBitVec.smod 64#64) = _
  rw [sh_b h]
  show x.toBitVec.sshiftRight (BitVec.ofNat 64 t).toNat = _
  rw [BitVec.toNat_ofNat, Nat.mod_eq_of_lt (by omega)]
theorem bt_1 {t : Nat} (h : t < 64) (i : Nat) : bt (gShlL 1 (nI t)) i = decide (i = t) := by
  unfold bt
  rw [shl_b 1 h]
  show (1#64 <<< t).getLsbD i = _
  rw [← BitVec.twoPow_eq, BitVec.getLsbD_twoPow]
  by_cases e : i = t
  · subst e; simp [h]
  · rw [decide_eq_false e]; simp; intro _; omega
theorem tst_b (x : Int64) {t : Nat} (h : t < 64) : (gShrL x (nI t) &&& 1) = if bt x t = true then 1 else 0 := by
  have e : ∀ i, i < 64 → bt (gShrL x (nI t) &&& 1) i = (bt x t && decide (i = 0)) := by
    intro i hi
    unfold bt
    show ((gShrL x (nI t)).toBitVec &&& 1#64).getLsbD i = _
    rw [shr_b x h, BitVec.getLsbD_and, BitVec.getLsbD_sshiftRight]
    by_cases e0 : i = 0
    · subst e0; simp [h]
    · simp [e0]
  apply bt_ext
  intro i hi
  rw [e i hi]
  cases hb : bt x t
  · rw [if_neg (by decide), bt_0]; rfl
  · rw [if_pos rfl]
    show _ = (1#64).getLsbD i
    simp
theorem tst_1 (x : Int64) {t : Nat} (h : t < 64) : (gShrL x (nI t) &&& 1) = 1 ↔ bt x t = true := by
  rw [tst_b x h]
  cases bt x t
  · simp
  · simp
theorem tst_0 (x : Int64) {t : Nat} (h : t < 64) : (gShrL x (nI t) &&& 1) = 0 ↔ bt x t = false := by
  rw [tst_b x h]
  cases bt x t
  · simp
  · simp
theorem msk_b {n : Nat} (h : n < 64) {i : Nat} (hi : i < 64) : bt (gShlL 1 (nI n) - 1) i = decide (i < n) := by
  unfold bt
  show ((gShlL 1 (nI n)).toBitVec - 1#64).getLsbD i = _
  rw [shl_b 1 h]
  have e : ((1 : Int64).toBitVec <<< n - 1#64) = BitVec.ofNat 64 (2 ^ n - 1) := by
    apply BitVec.eq_of_toNat_eq
    have h1 : 2 ^ n < 2 ^ 64 := Nat.pow_lt_pow_right (by decide) h
    have h2 : 0 < 2 ^ n := Nat.two_pow_pos n
    show ((1#64 <<< n) - 1#64).toNat = _
    rw [BitVec.toNat_sub, BitVec.toNat_shiftLeft, BitVec.toNat_ofNat, BitVec.toNat_ofNat, Nat.shiftLeft_eq, Nat.mod_eq_of_lt (by decide : 1 < 2 ^ 64), Nat.one_mul, Nat.mod_eq_of_lt h1, Nat.mod_eq_of_lt (by omega : 2 ^ n - 1 < 2 ^ 64)]
    omega
  rw [e, BitVec.getLsbD_ofNat, Nat.testBit_two_pow_sub_one]
  simp [hi]
theorem bt_ne0 (x : Int64) : x ≠ 0 ↔ ∃ t, t < 64 ∧ bt x t = true := by
  constructor
  · intro h
    apply Classical.byContradiction
    intro hn
    apply h
    apply bt_ext
    intro t ht
    rw [bt_0]
    cases hb : bt x t
    · rfl
    · exact (hn ⟨t, ht, hb⟩).elim
  · rintro ⟨t, _, hb⟩ rfl
    rw [bt_0] at hb; cases hb
/-- the set of those that f tells, below n -/
def bS (f : Nat → Bool) : Nat → Int64
  | 0 => 0
  | t + 1 => bS f t ||| (if f t = true then gShlL 1 (nI t) else 0)
theorem bS_b (f : Nat → Bool) : ∀ n, n ≤ 64 → ∀ i, bt (bS f n) i = (decide (i < n) && f i) := by
  intro n
  induction n with
  | zero => intro _ i; unfold bS; rw [bt_0]; simp
  | succ n ih =>
    intro hn i
    unfold bS
    rw [bt_or, ih (by omega)]
    by_cases e : i = n
    · subst e
      cases hf : f i
      · simp [bt_0]
      · simp [bt_1 (show i < 64 by omega)]
    · have : bt (if f n = true then gShlL 1 (nI n) else 0) i = false := by
        split
        · rw [bt_1 (by omega), decide_eq_false e]
        · rw [bt_0]
      rw [this]
      by_cases h2 : i < n
      · simp [h2, show i < n + 1 by omega]
      · simp [h2, show ¬ i < n + 1 by omega]
end
section
/-! the Model: open; sets of those that are counted -/
def sOpen (L : Lt) (a : Int32) : Int64 := match rg a 0 L.n with
  | none => -1
  | some k => bS (fun w => decide (0 < L.hv L.C k w)) 32
theorem open_ok {G : gP} {L : Lt} (hL : L.Wf) (hR : mRow G 1 0 L) (a : Int32) : Ok (f_X11_open G a) (fun q => gOff qZ G q.1 ∧ q.2 = sOpen L a) := by
  unfold f_X11_open sOpen
  have h8 := hL.n8
  rw [isSlot_rg hL.n8 hR.1]
  cases ha : rg a 0 L.n with
  | none => exact ⟨_, rfl, gOff.rf, rfl⟩
  | some k =>
    obtain ⟨-, hk, rfl⟩ := rg_some ha
    simp only [Option.isSome_some, if_true]
    rw [if_neg (by decide)]
    refine Ok.bind (counts_ok hL hR) (fun G1 h1 => ?_)
    obtain ⟨hO, hC⟩ := h1
    refine Ok.bind (Q := fun x => x = bS (fun w => decide (0 < L.hv L.C k w)) 32) ?_ (fun x hx => ⟨_, rfl, hO.w (fun k j => qZ_c), hx⟩)
    refine Ok.up (fun w s => s = (bS (fun w => decide (0 < L.hv L.C k w)) w, nI w)) 32 (by decide) ?_ ?_ rfl
    · rintro w s hw rfl
      unfold f_X11_open_b21
      have hv := L.hv_le L.C k w
      have hN := hL.N_le
      have hcl := L.cl_len L.N
      have hC' : L.C.length ≤ L.N := hcl
      simp (disch := omega) only [nLit, neg_nI, nI_add, pk_mul, nI_sub1, nI_clamp, gIn_t, gck_t, gLet_e, nI_leI, nI_ltJ, nI_eq, nI_nM_eq, nM_nI_eq, nM_eq, nM_nI_le, nI_nM_le, nM_nI_lt, nI_nM_lt, at_nI, gS_at, gS_ne', obind_some, iteT, iteF, ite_p, ite_n, hC.have' k w hk hw]
      refine ⟨_, rfl, ?_⟩
      simp only [bS]
      by_cases h0 : L.hv L.C k w ≤ 0
      · rw [if_pos h0, if_neg (by simp; omega)]
      · rw [if_neg h0, if_pos (by simp; omega)]
    · rintro s rfl
      unfold f_X11_open_b21
      simp (disch := omega) only [nLit, neg_nI, nI_add, pk_mul, nI_sub1, nI_clamp, gIn_t, gck_t, gLet_e, nI_leI, nI_ltJ, nI_eq, nI_nM_eq, nM_nI_eq, nM_eq, nM_nI_le, nI_nM_le, nM_nI_lt, nI_nM_lt, at_nI, gS_at, gS_ne', obind_some, iteT, iteF, ite_p, ite_n]; exact ⟨_, rfl, rfl⟩
/-- the t-th that is counted -/
def Lt.rd (L : Lt) (t : Nat) : Nat := L.C.getD t 0
theorem Lt.rd_C {L : Lt} {t : Nat} (h : t < L.C.length) : L.C[t]? = some (L.rd t) := by
  unfold Lt.rd
  rw [List.getD_eq_getElem?_getD, List.getElem?_eq_getElem h]; rfl
theorem Lt.rd_lt {L : Lt} {t : Nat} (h : t < L.C.length) : L.rd t < L.N ∧ L.cnt (L.rd t) = true := L.cl_lt _ _ (List.mem_of_getElem? (L.rd_C h))
theorem Lt.cnt_ev {L : Lt} {r : Nat} (h : L.cnt r = true) : ∃ ns, L.ev r = some ns := by
  unfold Lt.cnt at h
  rw [Bool.and_eq_true] at h
  obtain ⟨ns, h1, -⟩ := L.so_ev h.1
  exact ⟨ns, h1⟩
/-- of a set those that have a word in a slot -/
def Lt.qW (L : Lt) (x : Int64) (k w : Nat) : Int64 := bS (fun t => bt x t && decide (L.w k (L.pk (L.rd t) k) = w)) L.C.length
def Lt.rs (L : Lt) (x : Int64) : Nat → List Nat
  | 0 => []
  | t + 1 => if bt x t = true then L.rs x t ++ [L.rd t] else L.rs x t
def Lt.qN (L : Lt) (x : Int64) : Nat := (L.rs x L.C.length).length
theorem Lt.rs_len (L : Lt) (x : Int64) : ∀ t, (L.rs x t).length ≤ t := by
  intro t
  induction t with
  | zero => exact Nat.le_refl _
  | succ t ih =>
    rw [Lt.rs]
    split
    · simp; exact ih
    · omega
def cZ' (k j : Nat) : Bool := tZ k j
/-- what is there while sets are parted -/
def sQ (L : Lt) (G : gP) : Prop := (mRow G 1 0 L) ∧ (gS G 0 15 = nI L.C.length) ∧ (∀ i, i < L.C.length → gS G 7 i = nI (L.rd i))
theorem sQ.row {L : Lt} {G : gP} (h : sQ L G) : (mRow G 1 0 L) := h.1
theorem sQ.many {L : Lt} {G : gP} (h : sQ L G) : (gS G 0 15 = nI L.C.length) := h.2.1
theorem sQ.list {L : Lt} {G : gP} (h : sQ L G) : (∀ i, i < L.C.length → gS G 7 i = nI (L.rd i)) := h.2.2
theorem sQ.off {Z : Nat → Nat → Bool} {L : Lt} {G G' : gP} (h : sQ L G) (hO : gOff Z G G') (z : ∀ k j, k = 1 ∨ k = 7 ∨ (k = 0 ∧ j = 15) → Z k j = false) : sQ L G' := by
  refine ⟨h.row.off hO (fun j => z _ _ (by simp)), ?_, fun i hi => ?_⟩
  · rw [(hO 0 15 (z _ _ (by simp))).1]; exact h.many
  · rw [(hO 7 i (z _ _ (by simp))).1]; exact h.list i hi
theorem partOf_ok {G : gP} {L : Lt} (hL : L.Wf) (hS : sQ L G) (h60 : L.C.length ≤ 60) (x : Int64) {k w : Nat} (hk : k < L.n) (hw : w < 32) : Ok (f_X11_partOf G x (nI k) (nI w)) (fun q => gOff tZ G q.1 ∧ q.2 = L.qW x k w) := by
  unfold f_X11_partOf
  have h8 := hL.n8
  have hN := hL.N_le
  refine Ok.bind (Q := fun q => gOff tZ G q.1 ∧ q.2 = L.qW x k w) ?_ (fun q hq => ⟨_, rfl, hq⟩)
  refine Ok.up (fun t s => gOff tZ G s.1 ∧ s.2 = (bS (fun t => bt x t && decide (L.w k (L.pk (L.rd t) k) = w)) t, nI t)) L.C.length (by omega) ?_ ?_ ⟨gOff.rf, rfl⟩
  · rintro t ⟨G1, y⟩ ht ⟨hO, hy⟩
    simp only at hO hy
    subst hy
    have hS1 := hS.off hO (fun k j h => by simp [tZ]; omega)
    unfold f_X11_partOf_b6
    simp (disch := omega) only [nLit, neg_nI, nI_add, pk_mul, nI_sub1, nI_clamp, gIn_t, gck_t, gLet_e, nI_leI, nI_ltJ, nI_eq, nI_nM_eq, nM_nI_eq, nM_eq, nM_nI_le, nI_nM_le, nM_nI_lt, nI_nM_lt, at_nI, gS_at, gS_ne', obind_some, iteT, iteF, ite_p, ite_n, hS1.many]
    have hrd := L.rd_lt ht
    have etst := tst_1 x (show t < 64 by omega)
    cases hb : bt x t with
    | false =>
      rw [if_neg (by rw [etst, hb]; decide)]
      simp (disch := omega) only [nLit, neg_nI, nI_add, pk_mul, nI_sub1, nI_clamp, gIn_t, gck_t, gLet_e, nI_leI, nI_ltJ, nI_eq, nI_nM_eq, nM_nI_eq, nM_eq, nM_nI_le, nI_nM_le, nM_nI_lt, nI_nM_lt, at_nI, gS_at, gS_ne', obind_some, iteT, iteF, ite_p, ite_n]
      exact ⟨_, rfl, hO, by simp [bS, hb]⟩
    | true =>
      rw [if_pos (by rw [etst, hb])]
      simp (disch := omega) only [nLit, neg_nI, nI_add, pk_mul, nI_sub1, nI_clamp, gIn_t, gck_t, gLet_e, nI_leI, nI_ltJ, nI_eq, nI_nM_eq, nM_nI_eq, nM_eq, nM_nI_le, nI_nM_le, nM_nI_lt, nI_nM_lt, at_nI, gS_at, gS_ne', obind_some, iteT, iteF, ite_p, ite_n, hS1.list t ht]
      refine Ok.bind (Q := fun q : gP × Int32 => gOff tZ G q.1 ∧ q.2 = 1 ∧ mPk q.1 L.n (L.pk (L.rd t))) ?_ (fun q hq => ?_)
      · refine Ok.bind (takes_ok hL hS1.row (show L.rd t < 2 ^ 31 by omega)) (fun q hq => ?_)
        obtain ⟨hO2, hp, hc, hm⟩ := hq
        obtain ⟨ns, he⟩ := L.cnt_ev hrd.2
        rw [he] at hm
        rw [hm.1, if_neg (by decide)]
        exact ⟨_, rfl, hO.tr hO2, rfl, hp⟩
      · obtain ⟨hO2, h1, hp⟩ := hq
        have hpl := hL.pk_lt (r := L.rd t) hk
        have hm4 := hL.m1 k hk
        have hwk := hL.w32 k _ hk hpl
        have e1 := (((hS.off hO2 (fun k j h => by simp [tZ]; omega)).row.2.2.2.2 k hk).2 _ hpl).1
        rw [show 0 + 5 + 9 * k + L.pk (L.rd t) k = 4 + 9 * k + 1 + L.pk (L.rd t) k by omega] at e1
        rw [h1, if_neg (by decide)]
        simp (disch := omega) only [nLit, neg_nI, nI_add, pk_mul, nI_sub1, nI_clamp, gIn_t, gck_t, gLet_e, nI_leI, nI_ltJ, nI_eq, nI_nM_eq, nM_nI_eq, nM_eq, nM_nI_le, nI_nM_le, nM_nI_lt, nI_nM_lt, at_nI, gS_at, gS_ne', obind_some, iteT, iteF, ite_p, ite_n, hp k hk, e1]
        by_cases hc : L.w k (L.pk (L.rd t) k) = w
        · simp (disch := omega) only [nLit, neg_nI, nI_add, pk_mul, nI_sub1, nI_clamp, gIn_t, gck_t, gLet_e, nI_leI, nI_ltJ, nI_eq, nI_nM_eq, nM_nI_eq, nM_eq, nM_nI_le, nI_nM_le, nM_nI_lt, nI_nM_lt, at_nI, gS_at, gS_ne', obind_some, iteT, iteF, ite_p, ite_n]; exact ⟨_, rfl, hO2, by simp [bS, hb, hc]⟩
        · simp (disch := omega) only [nLit, neg_nI, nI_add, pk_mul, nI_sub1, nI_clamp, gIn_t, gck_t, gLet_e, nI_leI, nI_ltJ, nI_eq, nI_nM_eq, nM_nI_eq, nM_eq, nM_nI_le, nI_nM_le, nM_nI_lt, nI_nM_lt, at_nI, gS_at, gS_ne', obind_some, iteT, iteF, ite_p, ite_n]; exact ⟨_, rfl, hO2, by simp [bS, hb, hc]⟩
  · rintro ⟨G1, y⟩ ⟨hO, hy⟩
    simp only at hO hy
    subst hy
    have hS1 := hS.off hO (fun k j h => by simp [tZ]; omega)
    unfold f_X11_partOf_b6
    simp (disch := omega) only [nLit, neg_nI, nI_add, pk_mul, nI_sub1, nI_clamp, gIn_t, gck_t, gLet_e, nI_leI, nI_ltJ, nI_eq, nI_nM_eq, nM_nI_eq, nM_eq, nM_nI_le, nI_nM_le, nM_nI_lt, nI_nM_lt, at_nI, gS_at, gS_ne', obind_some, iteT, iteF, ite_p, ite_n, hS1.many]
    exact ⟨_, rfl, hO, rfl⟩
end
section
/-! the Model: whether all of a set tell the same -/
def Lt.f1 (L : Lt) (x : Int64) : Nat → Option (List Nat)
  | 0 => none
  | t + 1 => match L.f1 x t with
    | some a => some a
    | none => if bt x t = true then L.ev (L.rd t) else none
def Lt.sm (L : Lt) (x : Int64) : Nat → Bool
  | 0 => true
  | t + 1 => if bt x t = true then L.sm x t && decide (L.ev (L.rd t) = L.f1 x (t + 1)) else L.sm x t
def tsZ (k j : Nat) : Bool := tZ k j || decide (k = 6 ∨ k = 10 ∨ (k = 0 ∧ j = 21))
theorem tsZ_t {k j : Nat} (h : tsZ k j = false) : tZ k j = false := by unfold tsZ at h; rw [Bool.or_eq_false_iff] at h; exact h.1
theorem tsZ_6 {k j : Nat} (h : tsZ k j = false) : decide (k = 6) = false := by unfold tsZ at h; rw [Bool.or_eq_false_iff] at h; have := h.2; simp at this ⊢; omega
theorem tsZ_10 {k j : Nat} (h : tsZ k j = false) : decide (k = 10) = false := by unfold tsZ at h; rw [Bool.or_eq_false_iff] at h; have := h.2; simp at this ⊢; omega
theorem sQ.ts {L : Lt} {G G' : gP} (h : sQ L G) (hO : gOff tsZ G G') : sQ L G' := h.off hO (fun k j h => by simp [tsZ, tZ]; omega)
theorem Lt.f1_none {L : Lt} {x : Int64} (hev : ∀ t, t < L.C.length → ∃ ns, L.ev (L.rd t) = some ns) : ∀ t, t ≤ L.C.length → (L.f1 x t = none ↔ L.rs x t = []) := by
  intro t
  induction t with
  | zero => intro _; exact ⟨fun _ => rfl, fun _ => rfl⟩
  | succ t ih =>
    intro ht
    have ih := ih (by omega)
    rw [Lt.f1, Lt.rs]
    cases hf : L.f1 x t with
    | some a =>
      have : L.rs x t ≠ [] := fun z => by rw [ih.mpr z] at hf; cases hf
      constructor
      · intro z; cases z
      · intro z
        exfalso
        split at z
        · simp at z
        · exact this z
    | none =>
      have := ih.mp hf
      obtain ⟨ns, he⟩ := hev t (by omega)
      cases hb : bt x t
      · simp [this]
      · simp [he]
/-- the numbers of the first one, laid away -/
def f1P (G : gP) (a : List Nat) : Prop := aL G 10 0 a ∧ nsOk a
theorem cp10_ok {G : gP} {a : List Nat} (h6 : gS G 0 6 = nI a.length) (h4 : aL G 4 0 a) (hok : nsOk a) : Ok (gloop f_X11_tellsSame_b94 gFu (G, (0 : Int32))) (fun G' => gOff (fun k _ => decide (k = 10)) G G' ∧ aL G' 10 0 a) := by
  have hl := hok.2.1
  refine Ok.up (fun i s => s.2 = nI i ∧ gOff (fun k _ => decide (k = 10)) G s.1 ∧ ∀ j, j < i → gS s.1 10 j = nI (nsF a j)) a.length (by omega) ?_ ?_ ⟨rfl, gOff.rf, fun j hj => by omega⟩
  · rintro i ⟨G1, x⟩ hi ⟨hx, hO, hz⟩
    simp only at hx hO hz
    subst hx
    unfold f_X11_tellsSame_b94
    have e4 := nsF_aL h4 hi
    rw [Nat.zero_add] at e4
    simp (disch := omega) only [nLit, neg_nI, nI_add, pk_mul, nI_sub1, nI_clamp, gIn_t, gck_t, gLet_e, nI_leI, nI_ltJ, nI_eq, nI_nM_eq, nM_nI_eq, nM_eq, nM_nI_le, nI_nM_le, nM_nI_lt, nI_nM_lt, at_nI, gS_at, gS_ne', obind_some, iteT, iteF, ite_p, ite_n, (hO 0 6 rfl).1, h6, (hO 4 i rfl).1, e4]
    refine ⟨_, rfl, rfl, hO.S1 rfl, fun j hj => ?_⟩
    simp only
    rw [gS_S1]
    by_cases e : j = i
    · rw [if_pos ⟨rfl, e⟩, e]
    · rw [if_neg (fun z => e z.2)]; exact hz j (by omega)
  · rintro ⟨G1, x⟩ ⟨hx, hO, hz⟩
    simp only at hx hO hz
    subst hx
    unfold f_X11_tellsSame_b94
    simp (disch := omega) only [nLit, neg_nI, nI_add, pk_mul, nI_sub1, nI_clamp, gIn_t, gck_t, gLet_e, nI_leI, nI_ltJ, nI_eq, nI_nM_eq, nM_nI_eq, nM_eq, nM_nI_le, nI_nM_le, nM_nI_lt, nI_nM_lt, at_nI, gS_at, gS_ne', obind_some, iteT, iteF, ite_p, ite_n, (hO 0 6 rfl).1, h6]
    refine ⟨_, rfl, hO, fun j v hj => ?_⟩
    have hjl : j < a.length := (List.getElem?_eq_some_iff.mp hj).1
    rw [Nat.zero_add, hz j hjl]
    unfold nsF
    rw [List.getD_eq_getElem?_getD, hj]; rfl
/-- two lists in cells: whether they are the same -/
theorem cmp_ok {G : gP} {a b : List Nat} {y : Int32} (ha : nsOk a) (hb : nsOk b) (h4 : aL G 4 0 a) (h10 : aL G 10 0 b) (s : Bool) (hs : s = true → a.length = b.length) (hy : y = nI b.length) : Ok (gloop (f_X11_tellsSame_b145 (G, y)) gFu (bI s, (0 : Int32))) (fun r => r = bI (s && decide (a = b))) := by
  subst hy
  have hl := hb.2.1
  have hla := ha.2.1
  refine Ok.loop (fun n r => n ≤ b.length ∧ r = (bI (s && alike a b (b.length - n)), nI (b.length - n))) ?_ gFu b.length _ (by unfold gFu; omega) ⟨Nat.le_refl _, ?_⟩
  · rintro n r ⟨hn, rfl⟩
    unfold f_X11_tellsSame_b145
    simp only
    by_cases hn0 : n = 0
    · subst hn0
      rw [Nat.sub_zero, alike_eq (Or.inr trivial)]
      simp (disch := omega) only [nLit, neg_nI, nI_add, pk_mul, nI_sub1, nI_clamp, gIn_t, gck_t, gLet_e, nI_leI, nI_ltJ, nI_eq, nI_nM_eq, nM_nI_eq, nM_eq, nM_nI_le, nI_nM_le, nM_nI_lt, nI_nM_lt, at_nI, gS_at, gS_ne', obind_some, iteT, iteF, ite_p, ite_n]; exact ⟨_, rfl, rfl⟩
    · cases hc : (s && alike a b (b.length - n)) with
      | false =>
        rw [if_neg (nI_ge (by omega) (by omega)), if_pos (by decide)]
        refine ⟨_, rfl, ?_⟩
        simp only
        congr 1
        cases hs1 : s with
        | false => rfl
        | true =>
          rw [hs1, Bool.true_and] at hc
          symm
          rw [Bool.true_and]
          apply decide_eq_false
          intro e
          subst e
          rw [(alike_iff a a (a.length - n)).mpr ⟨rfl, fun _ _ => rfl⟩] at hc
          cases hc
      | true =>
        rw [if_neg (nI_ge (by omega) (by omega)), if_neg (by decide)]
        rw [Bool.and_eq_true] at hc
        obtain ⟨hc1, hc2⟩ := hc
        have hA := (alike_iff _ _ _).mp hc2
        have g4 := nsF_aL h4 (j := b.length - n) (by omega)
        have g5 := nsF_aL h10 (j := b.length - n) (by omega)
        rw [Nat.zero_add] at g4 g5
        have f4 := nsF_le ha (b.length - n)
        have f5 := nsF_le hb (b.length - n)
        have e1 : b.length - n + 1 = b.length - (n - 1) := by omega
        have e2 : alike a b (b.length - (n - 1)) = (alike a b (b.length - n) && decide (nsF a (b.length - n) = nsF b (b.length - n))) := by
          rw [← e1]; rfl
        simp (disch := omega) only [nLit, neg_nI, nI_add, pk_mul, nI_sub1, nI_clamp, gIn_t, gck_t, gLet_e, nI_leI, nI_ltJ, nI_eq, nI_nM_eq, nM_nI_eq, nM_eq, nM_nI_le, nI_nM_le, nM_nI_lt, nI_nM_lt, at_nI, gS_at, gS_ne', obind_some, iteT, iteF, ite_p, ite_n, g4, g5]
        by_cases he : nsF a (b.length - n) = nsF b (b.length - n)
        · simp (disch := omega) only [nLit, neg_nI, nI_add, pk_mul, nI_sub1, nI_clamp, gIn_t, gck_t, gLet_e, nI_leI, nI_ltJ, nI_eq, nI_nM_eq, nM_nI_eq, nM_eq, nM_nI_le, nI_nM_le, nM_nI_lt, nI_nM_lt, at_nI, gS_at, gS_ne', obind_some, iteT, iteF, ite_p, ite_n]; exact ⟨_, rfl, n - 1, by omega, by omega, by rw [hc1, e2, hc2, decide_eq_true he, e1]; rfl⟩
        · simp (disch := omega) only [nLit, neg_nI, nI_add, pk_mul, nI_sub1, nI_clamp, gIn_t, gck_t, gLet_e, nI_leI, nI_ltJ, nI_eq, nI_nM_eq, nM_nI_eq, nM_eq, nM_nI_le, nI_nM_le, nM_nI_lt, nI_nM_lt, at_nI, gS_at, gS_ne', obind_some, iteT, iteF, ite_p, ite_n]; exact ⟨_, rfl, n - 1, by omega, by omega, by rw [hc1, e2, hc2, decide_eq_false he, e1]; rfl⟩
  · rw [Nat.sub_self]
    cases s with
    | false => rfl
    | true =>
      show _ = (bI (decide (a.length = b.length)), _)
      rw [decide_eq_true (hs rfl)]; rfl
theorem tellsSame_ok {G : gP} {L : Lt} (hL : L.Wf) (hS : sQ L G) (h60 : L.C.length ≤ 60) (x : Int64) : Ok (f_X11_tellsSame G x) (fun q => gOff tsZ G q.1 ∧ q.2 = bI (L.sm x L.C.length) ∧ gS q.1 0 21 = nI (L.qN x) ∧ ∀ k w, k < L.n → w < 32 → gS q.1 6 (32 * k + w) = nI (L.hv (L.rs x L.C.length) k w)) := by
  unfold f_X11_tellsSame
  have h8 := hL.n8
  have hN := hL.N_le
  have hev : ∀ t, t < L.C.length → ∃ ns, L.ev (L.rd t) = some ns := fun t ht => L.cnt_ev (L.rd_lt ht).2
  refine Ok.bind (show Ok (gloop f_X11_tellsSame_b11 gFu (G, (0 : Int32))) _ from counts_b18_ok) (fun G1 h1 => ?_)
  obtain ⟨hO1, hz⟩ := h1
  have hO1' : gOff tsZ G G1 := hO1.w (fun k j => tsZ_6)
  refine Ok.bind (Q := fun q => gOff tsZ G q.1 ∧ q.2 = (bI (L.sm x L.C.length), nI (L.qN x)) ∧ ∀ k w, k < L.n → w < 32 → gS q.1 6 (32 * k + w) = nI (L.hv (L.rs x L.C.length) k w)) ?_ (fun q hq => ?_)
  · refine Ok.up (fun t s => gOff tsZ G s.1 ∧ (∀ k w, k < L.n → w < 32 → gS s.1 6 (32 * k + w) = nI (L.hv (L.rs x t) k w)) ∧ (∃ y, s.2 = (bI (L.sm x t), nI (L.rs x t).length, y, nI t) ∧ ∀ a, L.f1 x t = some a → y = nI a.length ∧ aL s.1 10 0 a ∧ nsOk a)) L.C.length (by omega) ?_ ?_ ?_
    · rintro t ⟨G2, z⟩ ht ⟨hO, hh, y, hz2, hf⟩
      simp only at hO hh hz2 hf
      subst hz2
      have hS1 := hS.ts hO
      unfold f_X11_tellsSame_b36
      simp (disch := omega) only [nLit, neg_nI, nI_add, pk_mul, nI_sub1, nI_clamp, gIn_t, gck_t, gLet_e, nI_leI, nI_ltJ, nI_eq, nI_nM_eq, nM_nI_eq, nM_eq, nM_nI_le, nI_nM_le, nM_nI_lt, nI_nM_lt, at_nI, gS_at, gS_ne', obind_some, iteT, iteF, ite_p, ite_n, hS1.many]
      have hrd := L.rd_lt ht
      have hlen := L.rs_len x t
      have etst := tst_1 x (show t < 64 by omega)
      cases hb : bt x t with
      | false =>
        rw [if_neg (by rw [etst, hb]; decide)]
        have e1 : L.rs x (t + 1) = L.rs x t := by rw [Lt.rs, hb]; rfl
        have e2 : L.sm x (t + 1) = L.sm x t := by rw [Lt.sm, hb]; rfl
        have e3 : ∀ a, L.f1 x (t + 1) = some a → L.f1 x t = some a := by
          intro a h
          rw [Lt.f1, hb] at h
          cases hf1 : L.f1 x t with
          | none => rw [hf1] at h; cases h
          | some b => rw [hf1] at h; exact h
        refine ⟨_, rfl, hO, ?_, y, ?_, ?_⟩
        · rw [e1]; exact hh
        · rw [e1, e2]
        · intro a ha; exact hf a (e3 a ha)
      | true =>
        rw [if_pos (by rw [etst, hb])]
        simp (disch := omega) only [nLit, neg_nI, nI_add, pk_mul, nI_sub1, nI_clamp, gIn_t, gck_t, gLet_e, nI_leI, nI_ltJ, nI_eq, nI_nM_eq, nM_nI_eq, nM_eq, nM_nI_le, nI_nM_le, nM_nI_lt, nI_nM_lt, at_nI, gS_at, gS_ne', obind_some, iteT, iteF, ite_p, ite_n, hS1.list t ht]
        refine Ok.bind (takes_ok hL hS1.row (show L.rd t < 2 ^ 31 by omega)) (fun q hq => ?_)
        obtain ⟨hO2, hp, hc, hm⟩ := hq
        obtain ⟨ns, he⟩ := L.cnt_ev hrd.2
        rw [he] at hm
        obtain ⟨hm1, hm2⟩ := hm
        have hok := hm2.ok hL (hL.pk_ok _) he
        have hl8 := hok.2.1
        have hOq : gOff tsZ G q.1 := hO.tr (hO2.w (fun k j => tsZ_t))
        have e1 : L.rs x (t + 1) = L.rs x t ++ [L.rd t] := by rw [Lt.rs, hb]; rfl
        rw [hm1]
        have esame : (if (1 : Int32) = nI 0 then nI 0 else if bI (L.sm x t) = nI 0 then nI 0 else nI 1) = bI (L.sm x t) := by
          rw [if_neg (by decide)]
          cases L.sm x t <;> decide
        -- the first one
        refine Ok.bind (Q := fun z : gP × Int32 => gOff tsZ G z.1 ∧ gOff (fun k _ => decide (k = 10)) q.1 z.1 ∧ ∃ a, L.f1 x (t + 1) = some a ∧ z.2 = nI a.length ∧ aL z.1 10 0 a ∧ nsOk a) ?_ (fun z hz => ?_)
        · cases hf1 : L.f1 x t with
          | none =>
            have hnil := (L.f1_none hev t (by omega)).mp hf1
            rw [hnil, if_pos List.length_nil]
            show Ok (Option.bind _ _) _
            refine Ok.bind (cp10_ok hm2.1 hm2.2.1 hok) (fun G3 h3 => ?_)
            refine ⟨_, rfl, hOq.tr (h3.1.w (fun k j => tsZ_10)), h3.1, ns, ?_, hm2.1, h3.2, hok⟩
            rw [Lt.f1, hf1, hb, ← he]; rfl
          | some a =>
            have hne : (L.rs x t).length ≠ 0 := fun z => by
              rw [(L.f1_none hev t (by omega)).mpr (List.length_eq_zero_iff.mp z)] at hf1; cases hf1
            simp (disch := omega) only [nLit, neg_nI, nI_add, pk_mul, nI_sub1, nI_clamp, gIn_t, gck_t, gLet_e, nI_leI, nI_ltJ, nI_eq, nI_nM_eq, nM_nI_eq, nM_eq, nM_nI_le, nI_nM_le, nM_nI_lt, nI_nM_lt, at_nI, gS_at, gS_ne', obind_some, iteT, iteF, ite_p, ite_n]
            obtain ⟨hy, ha10, hoka⟩ := hf a hf1
            refine ⟨_, rfl, hOq, gOff.rf, a, ?_, hy, ?_, hoka⟩
            · rw [Lt.f1, hf1]
            · intro j v hj
              rw [(hO2 10 _ rfl).1]; exact ha10 j v hj
        · obtain ⟨hO3, hO4, a, hfa, hza, ha10, hoka⟩ := hz
          have hla := hoka.2.1
          have z6 : gS z.1 0 6 = nI ns.length := by rw [(hO4 0 6 rfl).1]; exact hm2.1
          have esm : (if bI (L.sm x t) = nI 0 then nI 0 else if nI ns.length = nI a.length then nI 1 else nI 0) = bI (L.sm x t && decide (ns.length = a.length)) := by
            cases L.sm x t with
            | false => rfl
            | true =>
              rw [if_neg (by decide)]
              by_cases e : ns.length = a.length
              · rw [if_pos (by rw [e]), decide_eq_true e]; rfl
              · rw [if_neg (fun z => e ((nI_eq (by omega) (by omega)).mp z)), decide_eq_false e]; rfl
          rw [z6, hza]
          rw [show (if (if (1 : Int32) = nI 0 then nI 0 else if bI (L.sm x t) = nI 0 then nI 0 else nI 1) = nI 0 then nI 0 else if nI ns.length = nI a.length then nI 1 else nI 0) = bI (L.sm x t && decide (ns.length = a.length)) by rw [esame]; exact esm]
          have h4z : aL z.1 4 0 ns := fun j v hj => by rw [(hO4 4 _ rfl).1]; exact hm2.2.1 j v hj
          refine Ok.bind (show Ok (gloop (f_X11_tellsSame_b145 z) gFu _) _ from cmp_ok hok hoka h4z ha10 _ (fun h => by rw [Bool.and_eq_true] at h; exact of_decide_eq_true h.2) hza) (fun r hr => ?_)
          have hpz : mPk z.1 L.n (L.pk (L.rd t)) := fun k hk => by rw [(hO4 2 k rfl).1]; exact hp k hk
          have hhz : ∀ k w, k < L.n → w < 32 → gS z.1 6 (32 * k + w) = nI (L.hv (L.rs x t) k w) := fun k w hk hw => by
            rw [(hO4 6 _ rfl).1, (hO2 6 _ rfl).1]; exact hh k w hk hw
          refine Ok.bind (show Ok (gloop f_X11_tellsSame_b188 gFu (z.1, nI 0)) _ from having_ok rfl hL (hS.ts hO3).row hpz (by omega) hhz) (fun G5 h5 => ?_)
          obtain ⟨hO5, hh5⟩ := h5
          refine ⟨_, rfl, hO3.tr (hO5.w (fun k j => tsZ_6)), ?_, nI a.length, ?_, ?_⟩
          · rw [e1]; exact hh5
          · rw [e1, hr, List.length_append, List.length_singleton]
            congr 1
            congr 1
            rw [Lt.sm, if_pos hb, hfa, he]
            cases L.sm x t with
            | false => rfl
            | true =>
              by_cases e : ns = a
              · subst e; simp
              · simp [e]
          · intro a' ha'
            rw [hfa] at ha'
            cases ha'
            refine ⟨rfl, fun j v hj => ?_, hoka⟩
            rw [(hO5 10 _ rfl).1]; exact ha10 j v hj
    · rintro ⟨G2, z⟩ ⟨hO, hh, y, hz2, hf⟩
      simp only at hO hh hz2 hf
      subst hz2
      have hS1 := hS.ts hO
      unfold f_X11_tellsSame_b36
      simp (disch := omega) only [nLit, neg_nI, nI_add, pk_mul, nI_sub1, nI_clamp, gIn_t, gck_t, gLet_e, nI_leI, nI_ltJ, nI_eq, nI_nM_eq, nM_nI_eq, nM_eq, nM_nI_le, nI_nM_le, nM_nI_lt, nI_nM_lt, at_nI, gS_at, gS_ne', obind_some, iteT, iteF, ite_p, ite_n, hS1.many]
      exact ⟨_, rfl, hO, rfl, hh⟩
    · exact ⟨hO1', fun k w hk hw => hz _ (by omega), 0, rfl, fun a ha => by cases ha⟩
  · obtain ⟨hO, hq2, hh⟩ := hq
    rw [hq2]
    simp only [gLet]
    refine Ok.ck (bI_Z _) ⟨_, rfl, hO.S1 rfl, rfl, gS_at, fun k w hk hw => ?_⟩
    simp only
    rw [gS_ne (by omega)]; exact hh k w hk hw
end
section
/-! questions -/
def Lt.mo (L : Lt) (x : Int64) (k : Nat) : Nat := mx (fun w => L.hv (L.rs x L.C.length) k w) 32
def Lt.qL (L : Lt) (x : Int64) : Option Nat := (lk (L.mo x) (L.qN x) L.n).1
def Lt.askF (L : Lt) : Nat → Int64 → Nat
  | 0, _ => 0
  | f + 1, x => if L.sm x L.C.length = true then 0 else match L.qL x with
    | none => 0
    | some k => mx (fun c => if L.qW x k (L.w k c) = 0 then 0 else L.askF f (L.qW x k (L.w k c))) (L.m k) + 1
theorem Lt.ask_ex (L : Lt) (x : Int64) : ∃ a, a = L.askF 60 x := ⟨_, rfl⟩
noncomputable def Lt.ask (L : Lt) (x : Int64) : Nat := Classical.choose (L.ask_ex x)
theorem Lt.ask_def (L : Lt) (x : Int64) : L.ask x = L.askF 60 x := Classical.choose_spec (L.ask_ex x)
theorem mx_ge (f : Nat → Nat) : ∀ n i, i < n → f i ≤ mx f n := by
  intro n
  induction n with
  | zero => intro i h; omega
  | succ n ih =>
    intro i hi
    unfold mx
    by_cases e : i = n
    · subst e; split <;> omega
    · have := ih i (by omega); split <;> omega
theorem mx_eq {f g : Nat → Nat} : ∀ n, (∀ i, i < n → f i = g i) → mx f n = mx g n := by
  intro n
  induction n with
  | zero => intro _; rfl
  | succ n ih =>
    intro h
    unfold mx
    rw [ih (fun i hi => h i (by omega)), h n (by omega)]
theorem lk_some (mo : Nat → Nat) (all : Nat) : ∀ n k, (lk mo all n).1 = some k → k < n ∧ mo k < all := by
  intro n
  induction n with
  | zero => intro k h; cases h
  | succ n ih =>
    intro k h
    have hle := lk_le mo all n
    unfold lk at h
    split at h
    · cases h; exact ⟨by omega, by omega⟩
    · have := ih k h; exact ⟨by omega, this.2⟩
theorem Lt.rs_W {L : Lt} (h60 : L.C.length ≤ 60) (x : Int64) (k w : Nat) : ∀ t, t ≤ L.C.length → L.rs (L.qW x k w) t = (L.rs x t).filter (fun r => decide (L.w k (L.pk r k) = w)) := by
  intro t
  induction t with
  | zero => intro _; rfl
  | succ t ih =>
    intro ht
    have ih := ih (by omega)
    have hb : bt (L.qW x k w) t = (bt x t && decide (L.w k (L.pk (L.rd t) k) = w)) := by
      unfold Lt.qW
      rw [bS_b _ _ (by omega)]
      simp [show t < L.C.length by omega]
    rw [Lt.rs, Lt.rs, hb, ih]
    cases h1 : bt x t with
    | false => simp
    | true =>
      by_cases h2 : L.w k (L.pk (L.rd t) k) = w
      · simp [h2]
      · simp [h2]
theorem Lt.qN_W {L : Lt} (h60 : L.C.length ≤ 60) (x : Int64) (k w : Nat) : L.qN (L.qW x k w) = L.hv (L.rs x L.C.length) k w := by
  unfold Lt.qN
  rw [L.rs_W h60 x k w _ (Nat.le_refl _)]
  unfold Lt.hv
  rw [List.countP_eq_length_filter]
theorem Lt.W_lt {L : Lt} (h60 : L.C.length ≤ 60) {x : Int64} {k w : Nat} (hk : L.qL x = some k) (hw : w < 32) : L.qN (L.qW x k w) < L.qN x := by
  rw [L.qN_W h60]
  have h1 := lk_some _ _ _ _ hk
  have h2 := mx_ge (fun w => L.hv (L.rs x L.C.length) k w) 32 w hw
  have h3 := h1.2
  unfold Lt.mo at h3
  exact Nat.lt_of_le_of_lt h2 h3
theorem Lt.askF_s {L : Lt} (hL : L.Wf) (h60 : L.C.length ≤ 60) : ∀ f x, L.qN x ≤ f → L.askF f x = L.askF (f + 1) x := by
  intro f
  induction f with
  | zero =>
    intro x hx
    rw [Lt.askF, Lt.askF]
    split
    · rfl
    · cases hq : L.qL x with
      | none => rfl
      | some k => have := (lk_some _ _ _ _ hq).2; omega
  | succ f ih =>
    intro x hx
    rw [Lt.askF, Lt.askF]
    split
    · rfl
    · cases hq : L.qL x with
      | none => rfl
      | some k =>
        simp only
        congr 1
        apply mx_eq
        intro c hc
        have hk := (lk_some _ _ _ _ hq).1
        have := L.W_lt h60 hq (hL.w32 k c hk hc)
        rw [ih _ (by omega)]
theorem Lt.qN_le (L : Lt) (x : Int64) : L.qN x ≤ L.C.length := L.rs_len x _
theorem Lt.ask_eq {L : Lt} (hL : L.Wf) (h60 : L.C.length ≤ 60) (x : Int64) : L.ask x = if L.sm x L.C.length = true then 0 else match L.qL x with
    | none => 0
    | some k => mx (fun c => if L.qW x k (L.w k c) = 0 then 0 else L.ask (L.qW x k (L.w k c))) (L.m k) + 1 := by
  rw [L.ask_def, L.askF_s hL h60 60 x (Nat.le_trans (L.qN_le x) h60), Lt.askF]
  simp only [L.ask_def]
theorem Lt.ask_le {L : Lt} (hL : L.Wf) (h60 : L.C.length ≤ 60) : ∀ n x, L.qN x ≤ n → L.ask x ≤ n := by
  intro n
  induction n with
  | zero =>
    intro x hx
    rw [L.ask_eq hL h60]
    split
    · exact Nat.le_refl _
    · cases hq : L.qL x with
      | none => exact Nat.le_refl _
      | some k => have := (lk_some _ _ _ _ hq).2; omega
  | succ n ih =>
    intro x hx
    rw [L.ask_eq hL h60]
    split
    · omega
    · cases hq : L.qL x with
      | none => simp only; omega
      | some k =>
        simp only
        have hk := (lk_some _ _ _ _ hq).1
        have : mx (fun c => if L.qW x k (L.w k c) = 0 then 0 else L.ask (L.qW x k (L.w k c))) (L.m k) ≤ n := by
          apply mx_le
          intro c hc
          have h1 := L.W_lt h60 hq (hL.w32 k c hk hc)
          split
          · omega
          · exact ih _ (by omega)
        omega
/-- sums -/
def su (f : Nat → Nat) : Nat → Nat
  | 0 => 0
  | n + 1 => su f n + f n
theorem Lt.hv_c (L : Lt) (r : Nat) (l : List Nat) (k w : Nat) : L.hv (r :: l) k w = L.hv l k w + if L.w k (L.pk r k) = w then 1 else 0 := by
  unfold Lt.hv
  rw [List.countP_cons]
  by_cases h : L.w k (L.pk r k) = w <;> simp [h]
theorem Lt.su_hv {L : Lt} (hL : L.Wf) {k : Nat} (hk : k < L.n) : ∀ (l : List Nat) j, j ≤ L.m k → su (fun c => L.hv l k (L.w k c)) j ≤ l.length := by
  have one : ∀ r j, j ≤ L.m k → su (fun c => if L.w k (L.pk r k) = L.w k c then 1 else 0) j ≤ 1 ∧ ((∀ c, c < j → L.w k (L.pk r k) ≠ L.w k c) → su (fun c => if L.w k (L.pk r k) = L.w k c then 1 else 0) j = 0) := by
    intro r j
    induction j with
    | zero => intro _; exact ⟨by unfold su; omega, fun _ => rfl⟩
    | succ j ih =>
      intro hj
      have ih := ih (by omega)
      constructor
      · unfold su
        by_cases e : L.w k (L.pk r k) = L.w k j
        · rw [ih.2 (fun c hc => by rw [e]; exact (hL.ds k c j hk hc (by omega)).symm)]
          simp [e]
        · rw [if_neg e]; have := ih.1; omega
      · intro h
        unfold su
        rw [ih.2 (fun c hc => h c (by omega)), if_neg (h j (by omega))]
  intro l
  induction l with
  | nil =>
    intro j hj
    have : ∀ j, su (fun c => L.hv [] k (L.w k c)) j = 0 := by
      intro j
      induction j with
      | zero => rfl
      | succ j ih => unfold su; rw [ih]; rfl
    rw [this]; exact Nat.zero_le _
  | cons r l ih =>
    intro j hj
    have : ∀ j, su (fun c => L.hv (r :: l) k (L.w k c)) j = su (fun c => L.hv l k (L.w k c)) j + su (fun c => if L.w k (L.pk r k) = L.w k c then 1 else 0) j := by
      intro j
      induction j with
      | zero => rfl
      | succ j ih => unfold su; rw [ih, L.hv_c]; omega
    rw [this]
    have h1 := ih j hj
    have h2 := (one r j hj).1
    simp only [List.length_cons]
    omega
theorem bS_0 {f : Nat → Bool} {n : Nat} (hn : n ≤ 64) : bS f n = 0 ↔ ∀ i, i < n → f i = false := by
  constructor
  · intro h i hi
    have := bS_b f n hn i
    rw [h, bt_0] at this
    simp [hi] at this
    exact this
  · intro h
    apply bt_ext
    intro t ht
    rw [bS_b f n hn, bt_0]
    by_cases e : t < n
    · simp [h t e]
    · simp [e]
theorem Lt.rs_mem (L : Lt) (x : Int64) : ∀ t, (L.rs x t = [] ↔ ∀ i, i < t → bt x i = false) := by
  intro t
  induction t with
  | zero => exact ⟨fun _ i hi => by omega, fun _ => rfl⟩
  | succ t ih =>
    rw [Lt.rs]
    cases hb : bt x t with
    | true =>
      constructor
      · intro h; simp at h
      · intro h; have := h t (by omega); rw [hb] at this; cases this
    | false =>
      rw [if_neg (by decide), ih]
      constructor
      · intro h i hi
        by_cases e : i = t
        · subst e; exact hb
        · exact h i (by omega)
      · intro h i hi; exact h i (by omega)
theorem Lt.qN_0 (L : Lt) (x : Int64) : L.qN x = 0 ↔ ∀ i, i < L.C.length → bt x i = false := by
  unfold Lt.qN
  rw [List.length_eq_zero_iff, L.rs_mem]
theorem Lt.W_0 {L : Lt} (h60 : L.C.length ≤ 60) (x : Int64) (k w : Nat) : L.qW x k w = 0 ↔ L.qN (L.qW x k w) = 0 := by
  rw [L.qN_0]
  constructor
  · intro h i _; rw [h, bt_0]
  · intro h
    unfold Lt.qW
    rw [bS_0 (by omega)]
    intro i hi
    have := h i hi
    unfold Lt.qW at this
    rw [bS_b _ _ (by omega)] at this
    simp only [hi, decide_true, Bool.true_and] at this
    exact this
/-- a set that isn't empty has a part that isn't -/
theorem Lt.W_ex {L : Lt} (hL : L.Wf) (h60 : L.C.length ≤ 60) {x : Int64} (h1 : L.qN x ≠ 0) {k : Nat} (hk : k < L.n) : ∃ c, c < L.m k ∧ L.qW x k (L.w k c) ≠ 0 := by
  have : ∃ i, i < L.C.length ∧ bt x i = true := by
    apply Classical.byContradiction
    intro hn
    apply h1
    rw [L.qN_0]
    intro i hi
    cases hb : bt x i
    · rfl
    · exact (hn ⟨i, hi, hb⟩).elim
  obtain ⟨i, hi, hb⟩ := this
  refine ⟨L.pk (L.rd i) k, hL.pk_lt hk, fun z => ?_⟩
  unfold Lt.qW at z
  rw [bS_0 (by omega)] at z
  have := z i hi
  simp [hb] at this
/-- a stack of sets -/
def stk (G : gP) : List (Int64 × Nat) → Prop
  | [] => True
  | (x, d) :: r => gL G 8 r.length = x ∧ gS G 9 r.length = nI d ∧ stk G r
theorem stk.off {Z : Nat → Nat → Bool} {G G' : gP} (hO : gOff Z G G') : ∀ st : List (Int64 × Nat), (∀ k j, (k = 8 ∨ k = 9) → j < st.length → Z k j = false) → stk G st → stk G' st := by
  intro st
  induction st with
  | nil => intro _ _; trivial
  | cons p r ih =>
    rintro hz ⟨h1, h2, h3⟩
    refine ⟨?_, ?_, ih (fun k j hk hj => hz k j hk (by simp; omega)) h3⟩
    · rw [(hO 8 _ (hz _ _ (by simp) (by simp))).2.1]; exact h1
    · rw [(hO 9 _ (hz _ _ (by simp) (by simp))).1]; exact h2
noncomputable def Lt.vS (L : Lt) : List (Int64 × Nat) → Nat
  | [] => 0
  | (x, d) :: r => max (d + L.ask x) (L.vS r)
def Lt.sq (L : Lt) : List (Int64 × Nat) → Nat
  | [] => 0
  | (x, _) :: r => L.qN x + L.sq r
def Lt.stO (L : Lt) (st : List (Int64 × Nat)) : Prop := ∀ p ∈ st, 1 ≤ L.qN p.1 ∧ p.2 + L.qN p.1 ≤ L.C.length
def Lt.pt (L : Lt) (x : Int64) (k d : Nat) : Nat → List (Int64 × Nat)
  | 0 => []
  | c + 1 => if L.qW x k (L.w k c) = 0 then L.pt x k d c else (L.qW x k (L.w k c), d + 1) :: L.pt x k d c
theorem Lt.vS_app (L : Lt) : ∀ a b, L.vS (a ++ b) = max (L.vS a) (L.vS b) := by
  intro a
  induction a with
  | nil => intro b; simp [Lt.vS]
  | cons p a ih => intro b; obtain ⟨x, d⟩ := p; simp only [List.cons_append, Lt.vS]; rw [ih]; omega
theorem Lt.sq_app (L : Lt) : ∀ a b, L.sq (a ++ b) = L.sq a + L.sq b := by
  intro a
  induction a with
  | nil => intro b; simp [Lt.sq]
  | cons p a ih => intro b; obtain ⟨x, d⟩ := p; simp only [List.cons_append, Lt.sq]; rw [ih]; omega
theorem Lt.sq_len {L : Lt} : ∀ st, L.stO st → st.length ≤ L.sq st := by
  intro st
  induction st with
  | nil => intro _; exact Nat.le_refl _
  | cons p a ih =>
    intro h
    have h1 := ih (fun q hq => h q (List.mem_cons_of_mem _ hq))
    have h2 := (h p (List.mem_cons_self ..)).1
    simp only [Lt.sq, List.length_cons]; omega
theorem Lt.pt_v {L : Lt} (x : Int64) (k d : Nat) : ∀ c, ((∀ i, i < c → L.qW x k (L.w k i) = 0) → L.vS (L.pt x k d c) = 0 ∧ mx (fun c => if L.qW x k (L.w k c) = 0 then 0 else L.ask (L.qW x k (L.w k c))) c = 0) ∧
    ((∃ i, i < c ∧ L.qW x k (L.w k i) ≠ 0) → L.vS (L.pt x k d c) = d + 1 + mx (fun c => if L.qW x k (L.w k c) = 0 then 0 else L.ask (L.qW x k (L.w k c))) c) := by
  intro c
  induction c with
  | zero => exact ⟨fun _ => ⟨rfl, rfl⟩, fun ⟨i, hi, _⟩ => by omega⟩
  | succ c ih =>
    obtain ⟨ih1, ih2⟩ := ih
    constructor
    · intro h
      have := ih1 (fun i hi => h i (by omega))
      have hc := h c (by omega)
      rw [Lt.pt, if_pos hc]
      refine ⟨this.1, ?_⟩
      rw [mx, if_pos hc, this.2]; rfl
    · rintro ⟨i, hi, hne⟩
      by_cases hc : L.qW x k (L.w k c) = 0
      · have hic : i ≠ c := fun e => by subst e; exact hne hc
        rw [Lt.pt, if_pos hc, ih2 ⟨i, by omega, hne⟩, mx, if_pos hc, if_neg (Nat.not_lt_zero _)]
      · rw [Lt.pt, if_neg hc, mx, if_neg hc]
        simp only [Lt.vS]
        by_cases hex : ∃ i, i < c ∧ L.qW x k (L.w k i) ≠ 0
        · rw [ih2 hex]; split <;> omega
        · have hall : ∀ i, i < c → L.qW x k (L.w k i) = 0 := fun i hi => by
            apply Classical.byContradiction
            intro z; exact hex ⟨i, hi, z⟩
          have := ih1 hall
          rw [this.1, this.2]; split <;> omega
theorem Lt.pt_sq {L : Lt} (h60 : L.C.length ≤ 60) (x : Int64) (k d : Nat) : ∀ c, L.sq (L.pt x k d c) = su (fun c => L.hv (L.rs x L.C.length) k (L.w k c)) c := by
  intro c
  induction c with
  | zero => rfl
  | succ c ih =>
    rw [Lt.pt, su, ← L.qN_W h60]
    by_cases hc : L.qW x k (L.w k c) = 0
    · rw [if_pos hc, ih, (L.W_0 h60 _ _ _).mp hc]; rfl
    · rw [if_neg hc, Lt.sq, ih, Nat.add_comm]
theorem Lt.pt_O {L : Lt} (hL : L.Wf) (h60 : L.C.length ≤ 60) {x : Int64} {k d : Nat} (hq : L.qL x = some k) (hd : d + L.qN x ≤ L.C.length) : ∀ c, c ≤ L.m k → L.stO (L.pt x k d c) := by
  intro c
  induction c with
  | zero => intro _ p hp; cases hp
  | succ c ih =>
    intro hc
    rw [Lt.pt]
    have hk := (lk_some _ _ _ _ hq).1
    split
    · exact ih (by omega)
    · rename_i hne
      intro p hp
      rcases List.mem_cons.mp hp with rfl | hp
      · have := L.W_lt h60 hq (hL.w32 k c hk (by omega))
        have h0 : L.qN (L.qW x k (L.w k c)) ≠ 0 := fun z => hne ((L.W_0 h60 _ _ _).mpr z)
        simp only
        constructor
        · omega
        · omega
      · exact ih (by omega) p hp
/-- each pushes twice its size, less one -/
def Lt.mu (L : Lt) : List (Int64 × Nat) → Nat
  | [] => 0
  | (x, _) :: r => (2 * L.qN x - 1) + L.mu r
theorem Lt.mu_app (L : Lt) : ∀ a b, L.mu (a ++ b) = L.mu a + L.mu b := by
  intro a
  induction a with
  | nil => intro b; simp [Lt.mu]
  | cons p a ih => intro b; obtain ⟨x, d⟩ := p; simp only [List.cons_append, Lt.mu]; rw [ih]; omega
theorem Lt.mu_sq {L : Lt} : ∀ st, L.stO st → L.mu st + st.length = 2 * L.sq st := by
  intro st
  induction st with
  | nil => intro _; rfl
  | cons p a ih =>
    intro h
    have h1 := ih (fun q hq => h q (List.mem_cons_of_mem _ hq))
    have h2 := (h p (List.mem_cons_self ..)).1
    obtain ⟨x, d⟩ := p
    simp only [Lt.sq, Lt.mu, List.length_cons] at h2 ⊢; omega
theorem Lt.pt_mu {L : Lt} (hL : L.Wf) (h60 : L.C.length ≤ 60) {x : Int64} {k d : Nat} (hq : L.qL x = some k) (hd : d + L.qN x ≤ L.C.length) (h1 : 1 ≤ L.qN x) : L.mu (L.pt x k d (L.m k)) < 2 * L.qN x - 1 := by
  have hk := (lk_some _ _ _ _ hq).1
  have hO := L.pt_O hL h60 hq hd (L.m k) (Nat.le_refl _)
  have hm := L.mu_sq _ hO
  have hs := L.pt_sq h60 x k d (L.m k)
  have hb := L.su_hv hL hk (L.rs x L.C.length) (L.m k) (Nat.le_refl _)
  have hqN : (L.rs x L.C.length).length = L.qN x := rfl
  rw [← hs, hqN] at hb
  cases hp : L.pt x k d (L.m k) with
  | nil => 
    exfalso
    obtain ⟨c, hc, hne⟩ := L.W_ex hL h60 (show L.qN x ≠ 0 by omega) hk
    have : ∀ m, c < m → L.pt x k d m ≠ [] := by
      intro m
      induction m with
      | zero => intro h; omega
      | succ m ih =>
        intro h
        rw [Lt.pt]
        split
        · rename_i h0
          exact ih (by have : c ≠ m := fun e => by subst e; exact hne h0
                       omega)
        · simp
    exact this _ hc hp
  | cons p a =>
    rw [hp] at hm hb hO
    cases a with
    | nil =>
      -- one alone: it is smaller
      obtain ⟨y, e⟩ := p
      have hlt : L.qN y < L.qN x := by
        have hmem : (y, e) ∈ L.pt x k d (L.m k) := by rw [hp]; exact List.mem_cons_self ..
        have : ∀ m, m ≤ L.m k → (y, e) ∈ L.pt x k d m → L.qN y < L.qN x := by
          intro m
          induction m with
          | zero => intro _ h; cases h
          | succ m ih =>
            intro hm h
            rw [Lt.pt] at h
            split at h
            · exact ih (by omega) h
            · rcases List.mem_cons.mp h with h | h
              · cases h; exact L.W_lt h60 hq (hL.w32 k m hk (by omega))
              · exact ih (by omega) h
        exact this _ (Nat.le_refl _) hmem
      have h2 := (hO (y, e) (List.mem_cons_self ..)).1
      simp only [Lt.mu]
      simp only at h2
      omega
    | cons p2 a2 =>
      simp only [List.length_cons] at hm
      omega
end
section
/-! the Model: questions -/
theorem nI_m1 {n : Nat} (h : 1 ≤ n) : nI n + nM 1 = nI (n - 1) := by
  unfold nM
  rw [← Int32.sub_eq_add_neg]
  exact pk_sub h
theorem Ok.out {σ ρ : Type} {f : σ → Option (σ ⊕ ρ)} {P : ρ → Prop} {s : σ} {r : ρ} (h : f s = Option.some (Sum.inr r)) (hp : P r) : Ok (gloop f gFu s) P :=
  Ok.loop (fun _ s' => s' = s) (fun n s' e => by subst e; exact ⟨_, h, hp⟩) gFu 0 s (by unfold gFu; omega) rfl
def uZ (k j : Nat) : Bool := tsZ k j || decide (k = 8 ∨ k = 9)
theorem uZ_t {k j : Nat} (h : uZ k j = false) : tZ k j = false := by unfold uZ at h; rw [Bool.or_eq_false_iff] at h; exact tsZ_t h.1
theorem uZ_ts {k j : Nat} (h : uZ k j = false) : tsZ k j = false := by unfold uZ at h; rw [Bool.or_eq_false_iff] at h; exact h.1
theorem sQ.u {L : Lt} {G G' : gP} (h : sQ L G) (hO : gOff uZ G G') : sQ L G' := h.off hO (fun k j h => by simp [uZ, tsZ, tZ]; omega)
theorem qs_push {L : Lt} (hL : L.Wf) (h60 : L.C.length ≤ 60) {G : gP} (hS : sQ L G) {x : Int64} {k d : Nat} (hq : L.qL x = some k) (h1 : 1 ≤ L.qN x) (hd : d + L.qN x ≤ L.C.length) {st : List (Int64 × Nat)} (hO' : L.stO st) (hs : L.qN x + L.sq st ≤ L.C.length) (hk : stk G st) :
    Ok (gloop (f_X11_questions_b113 (nI k) x (nI d)) gFu (G, nI st.length, (0 : Int32))) (fun r => gOff uZ G r.1 ∧ r.2 = nI (L.pt x k d (L.m k) ++ st).length ∧ stk r.1 (L.pt x k d (L.m k) ++ st)) := by
  have hkn := (lk_some _ _ _ _ hq).1
  have h8 := hL.n8
  have hm := hL.m1 k hkn
  refine Ok.up (fun c s => gOff uZ G s.1 ∧ s.2 = (nI (L.pt x k d c ++ st).length, nI c) ∧ stk s.1 (L.pt x k d c ++ st)) (L.m k) (by omega) ?_ ?_ ⟨gOff.rf, rfl, hk⟩
  · rintro c ⟨G1, y⟩ hc ⟨hO, hy, hst⟩
    simp only at hO hy hst
    subst hy
    have hS1 := hS.u hO
    have hw := hL.w32 k c hkn hc
    have e0 := (hS1.row.2.2.2.2 k hkn).1
    have e1 := ((hS1.row.2.2.2.2 k hkn).2 c hc).1
    rw [show 0 + 4 + 9 * k = 4 + 9 * k by omega] at e0
    rw [show 0 + 5 + 9 * k + c = 4 + 9 * k + 1 + c by omega] at e1
    have hOc := L.pt_O hL h60 hq hd c (by omega)
    have hlen : (L.pt x k d c ++ st).length ≤ 60 := by
      have a1 := L.sq_len _ hOc
      have a2 := L.sq_len _ hO'
      have a3 := L.pt_sq h60 x k d c
      have a4 := L.su_hv hL hkn (L.rs x L.C.length) c (by omega)
      have a5 : (L.rs x L.C.length).length = L.qN x := rfl
      rw [List.length_append]; omega
    unfold f_X11_questions_b113
    simp (disch := omega) only [nLit, neg_nI, nI_add, pk_mul, nI_sub1, nI_clamp, gIn_t, gck_t, gLet_e, nI_leI, nI_ltJ, nI_eq, nI_nM_eq, nM_nI_eq, nM_eq, nM_nI_le, nI_nM_le, nM_nI_lt, nI_nM_lt, at_nI, gS_at, gS_ne', obind_some, iteT, iteF, ite_p, ite_n, e0, e1]
    refine Ok.bind (partOf_ok hL hS1 h60 x hkn hw) (fun q hq2 => ?_)
    obtain ⟨hO2, hq2⟩ := hq2
    have hO3 := hO.tr (hO2.w (fun k j => uZ_t))
    have hst2 := stk.off hO2 _ (fun k j hk _ => by simp [tZ]; omega) hst
    rw [hq2]
    by_cases h0 : L.qW x k (L.w k c) = 0
    · rw [if_pos h0]
      have e : L.pt x k d (c + 1) = L.pt x k d c := by rw [Lt.pt, if_pos h0]
      refine ⟨_, rfl, hO3, ?_, ?_⟩
      · rw [e]
      · rw [e]; exact hst2
    · rw [if_neg h0]
      have e : L.pt x k d (c + 1) = (L.qW x k (L.w k c), d + 1) :: L.pt x k d c := by rw [Lt.pt, if_neg h0]
      refine ⟨_, rfl, (hO3.L1 (by simp [uZ])).S1 (by simp [uZ]), ?_, ?_⟩
      · rw [e]; rfl
      · rw [e, List.cons_append]
        generalize L.pt x k d c ++ st = l at *
        refine ⟨?_, ?_, ?_⟩
        · show gL (gS1 (gL1 q.1 8 _ _) 9 _ _) 8 _ = _
          rw [gL_S1, gL_L1, if_pos ⟨rfl, rfl⟩]
        · show gS (gS1 _ 9 _ _) 9 _ = _
          rw [gS_at]
        · refine stk.off (Z := fun k j => decide ((k = 8 ∨ k = 9) ∧ j = l.length)) ((gOff.rf.L1 ?_).S1 ?_) _ ?_ hst2
          · simp
          · simp
          · intro k j hk hj; simp; intro _; omega
  · rintro ⟨G1, y⟩ ⟨hO, hy, hst⟩
    simp only at hO hy hst
    subst hy
    have hS1 := hS.u hO
    have e0 := (hS1.row.2.2.2.2 k hkn).1
    rw [show 0 + 4 + 9 * k = 4 + 9 * k by omega] at e0
    unfold f_X11_questions_b113
    simp (disch := omega) only [nLit, neg_nI, nI_add, pk_mul, nI_sub1, nI_clamp, gIn_t, gck_t, gLet_e, nI_leI, nI_ltJ, nI_eq, nI_nM_eq, nM_nI_eq, nM_eq, nM_nI_le, nI_nM_le, nM_nI_lt, nI_nM_lt, at_nI, gS_at, gS_ne', obind_some, iteT, iteF, ite_p, ite_n, e0]
    exact ⟨_, rfl, hO, rfl, hst⟩
noncomputable def Lt.qs (L : Lt) : Int32 := if L.C.length = 0 ∨ 60 < L.C.length then -4 else nI (L.ask (gShlL 1 (nI L.C.length) - 1))
theorem questions_ok {G : gP} {L : Lt} (hL : L.Wf) (hR : mRow G 1 0 L) : Ok (f_X11_questions G) (fun q => gOff qZ G q.1 ∧ q.2 = L.qs) := by
  unfold f_X11_questions Lt.qs
  have h8 := hL.n8
  have hN := hL.N_le
  refine Ok.bind (counts_ok hL hR) (fun G1 h1 => ?_)
  obtain ⟨hO, hC⟩ := h1
  have hO' := hO.w (fun k j => qZ_c)
  have hCl : L.C.length ≤ L.N := L.cl_len L.N
  by_cases hc0 : L.C.length = 0
  · rw [if_pos (Or.inl hc0), hC.many, hc0, if_pos nI_0]
    exact ⟨_, rfl, hO', rfl⟩
  · by_cases hc60 : 60 < L.C.length
    · rw [if_pos (Or.inr hc60)]
      simp (disch := omega) only [nLit, neg_nI, nI_add, pk_mul, nI_sub1, nI_clamp, gIn_t, gck_t, gLet_e, nI_leI, nI_ltJ, nI_eq, nI_nM_eq, nM_nI_eq, nM_eq, nM_nI_le, nI_nM_le, nM_nI_lt, nI_nM_lt, at_nI, gS_at, gS_ne', obind_some, iteT, iteF, ite_p, ite_n, hC.many]
      exact ⟨_, rfl, hO', rfl⟩
    · have h60 : L.C.length ≤ 60 := by omega
      rw [if_neg (show ¬ (L.C.length = 0 ∨ 60 < L.C.length) by omega)]
      simp (disch := omega) only [nLit, neg_nI, nI_add, pk_mul, nI_sub1, nI_clamp, gIn_t, gck_t, gLet_e, nI_leI, nI_ltJ, nI_eq, nI_nM_eq, nM_nI_eq, nM_eq, nM_nI_le, nI_nM_le, nM_nI_lt, nI_nM_lt, at_nI, gS_at, gS_ne', obind_some, iteT, iteF, ite_p, ite_n, hC.many]
      have hS1 : sQ L G1 := ⟨hR.q hO', hC.many, fun i hi => hC.list i (by omega) _ (L.rd_C hi)⟩
      generalize hx : (gShlL 1 (nI L.C.length) - 1) = x
      have hqx : L.qN x = L.C.length := by
        have : ∀ t, t ≤ L.C.length → (L.rs x t).length = t := by
          intro t
          induction t with
          | zero => intro _; rfl
          | succ t ih =>
            intro ht
            rw [Lt.rs, ← hx, msk_b (by omega) (by omega), hx, decide_eq_true (by omega), if_pos rfl, List.length_append, ih (by omega)]; rfl
        exact this _ (Nat.le_refl _)
      refine Ok.bind (Q := fun q => gOff qZ G q.1 ∧ q.2 = nI (L.ask x)) ?_ (fun q hq => ⟨_, rfl, hq⟩)
      refine Ok.loop (fun n s => ∃ st mo, gOff qZ G s.1 ∧ sQ L s.1 ∧ s.2 = (nI mo, nI st.length) ∧ stk s.1 st ∧ max mo (L.vS st) = L.ask x ∧ L.stO st ∧ L.sq st ≤ L.C.length ∧ n = L.mu st ∧ mo ≤ 60) ?_ gFu (L.mu [(x, 0)]) _ ?_ ?_
      · rintro n ⟨G2, z⟩ ⟨st, mo, hO2, hS2, hz, hst, hmax, hsO, hsq, hn, hmo⟩
        simp only at hO2 hS2 hz hst
        subst hz
        cases st with
        | nil =>
          unfold f_X11_questions_b48
          simp only
          rw [if_pos (by decide)]
          refine ⟨_, rfl, hO2, ?_⟩
          simp only
          have hz : L.vS [] = 0 := rfl
          rw [hz] at hmax
          rw [← hmax]; apply nI_inj; omega
        | cons p st =>
          obtain ⟨y, d⟩ := p
          obtain ⟨hy, hd, hst'⟩ := hst
          have hp := hsO (y, d) (List.mem_cons_self ..)
          simp only at hp
          have hsO' : L.stO st := fun q hq => hsO q (List.mem_cons_of_mem _ hq)
          have hln := L.sq_len _ hsO'
          simp only [Lt.sq] at hsq
          simp only [Lt.vS] at hmax
          simp only [Lt.mu] at hn
          unfold f_X11_questions_b48
          simp only [List.length_cons]
          simp (disch := omega) only [nLit, neg_nI, nI_add, pk_mul, nI_sub1, nI_clamp, gIn_t, gck_t, gLet_e, nI_leI, nI_ltJ, nI_eq, nI_nM_eq, nM_nI_eq, nM_eq, nM_nI_le, nI_nM_le, nM_nI_lt, nI_nM_lt, at_nI, gS_at, gS_ne', obind_some, iteT, iteF, ite_p, ite_n, nI_m1, Nat.add_sub_cancel, hy, hd]
          refine Ok.bind (tellsSame_ok hL hS2 h60 y) (fun q hq => ?_)
          obtain ⟨hO3, hsm, hleft, hhv⟩ := hq
          have hS3 := hS2.ts hO3
          have hst3 := stk.off hO3 _ (fun k j hk _ => by simp [tsZ, tZ]; omega) hst'
          have hO3q : gOff qZ G q.1 := hO2.tr (hO3.w (fun k j h => by simp [qZ] at h; simp [tsZ, tZ]; omega))
          have hqc := L.qN_le y
          have hask := L.ask_eq hL h60 y
          -- the slot that is asked about
          refine Ok.bind (Q := fun r => r = rI (if L.sm y L.C.length = true then none else L.qL y)) ?_ (fun r hr => ?_)
          · rw [hsm]
            cases hsy : L.sm y L.C.length with
            | true => rw [if_neg (by decide)]; exact ⟨_, rfl, rfl⟩
            | false =>
              rw [if_pos (by decide)]
              have hvb : ∀ k w, L.hv (L.rs y L.C.length) k w < 2 ^ 30 := fun k w => by
                have := L.hv_le (L.rs y L.C.length) k w
                have := L.rs_len y L.C.length
                omega
              refine Ok.bind (by rw [hleft]; exact look_ok hL hS3.row.1 hvb hhv (show L.qN y < 2 ^ 30 by omega)) (fun r hr => ⟨_, rfl, hr⟩)
          · subst hr
            have hdm : (if d ≤ mo then nI mo else nI d) = nI (max mo d) := by
              split <;> (apply nI_inj; omega)
            have hvs : max (max mo d) (max (d + L.ask y) (L.vS st)) = L.ask x := by omega
            cases hsl : (if L.sm y L.C.length = true then none else L.qL y) with
            | none =>
              have ha0 : L.ask y = 0 := by
                rw [hask]
                split
                · rfl
                · rename_i h; rw [if_neg h] at hsl; rw [hsl]
              refine Ok.bind (Q := fun r : gP × Int32 => r = (q.1, nI st.length)) ?_ (fun r hr => ?_)
              · exact Ok.out (by unfold f_X11_questions_b113; exact if_pos rfl) rfl
              · subst hr
                refine ⟨_, rfl, L.mu st, ?_, st, max mo d, hO3q, hS3, ?_, hst3, ?_, hsO', by omega, rfl, by omega⟩
                · rw [hn]; omega
                · simp only [hdm]
                · rw [ha0] at hvs; omega
            | some k =>
              have hsf : L.sm y L.C.length ≠ true := fun z => by rw [if_pos z] at hsl; cases hsl
              rw [if_neg hsf] at hsl
              have hk := (lk_some _ _ _ _ hsl).1
              refine Ok.bind (qs_push hL h60 hS3 hsl hp.1 hp.2 hsO' hsq hst3) (fun r hr => ?_)
              obtain ⟨hO5, hr2, hst5⟩ := hr
              have hsO5 := L.pt_O hL h60 hsl hp.2 (L.m k) (Nat.le_refl _)
              refine ⟨_, rfl, L.mu (L.pt y k d (L.m k) ++ st), ?_, L.pt y k d (L.m k) ++ st, max mo d, ?_, hS3.u hO5, ?_, hst5, ?_, ?_, ?_, rfl, by omega⟩
              · rw [hn, L.mu_app]
                have := L.pt_mu hL h60 hsl hp.2 hp.1
                omega
              · exact hO3q.tr (hO5.w (fun k j h => by simp [qZ] at h; simp [uZ, tsZ, tZ]; omega))
              · simp only [hdm, hr2]
              · rw [L.vS_app, (L.pt_v y k d (L.m k)).2 (L.W_ex hL h60 (by omega) hk)]
                rw [if_neg hsf, hsl] at hask
                simp only at hask
                generalize mx (fun c => if L.qW y k (L.w k c) = 0 then 0 else L.ask (L.qW y k (L.w k c))) (L.m k) = A at *
                omega
              · intro p hp2
                rcases List.mem_append.mp hp2 with h | h
                · exact hsO5 p h
                · exact hsO' p h
              · rw [L.sq_app, L.pt_sq h60]
                have := L.su_hv hL hk (L.rs y L.C.length) (L.m k) (Nat.le_refl _)
                have a5 : (L.rs y L.C.length).length = L.qN y := rfl
                omega
      · simp only [Lt.mu]; unfold gFu; omega
      · refine ⟨[(x, 0)], 0, (hO'.L1 (by simp [qZ])).S1 (by simp [qZ]), ?_, rfl, ?_, ?_, ?_, ?_, rfl, by omega⟩
        · exact hS1.u ((gOff.rf.L1 (by simp [uZ])).S1 (by simp [uZ]))
        · refine ⟨?_, ?_, trivial⟩
          · show gL (gS1 (gL1 _ 8 0 _) 9 0 _) 8 0 = _
            rw [gL_S1, gL_L1, if_pos ⟨rfl, rfl⟩, ← hx]
          · show gS (gS1 _ 9 0 _) 9 0 = _
            rw [gS_at]
        · simp only [Lt.vS]; omega
        · intro p hp
          rw [List.mem_singleton] at hp
          subst hp
          simp only
          omega
        · simp only [Lt.sq]; omega
end
section
/-! the Model: spoilt, likely, slot, count -/
def setp (p : Nat → Nat) (k c : Nat) : Nat → Nat := fun i => if i = k then c else p i
def Lt.bad (L : Lt) (p : Nat → Nat) : Bool := match L.tell p with
  | none => false
  | some ns => !sound L.kind ns
def Lt.sp1 (L : Lt) (p : Nat → Nat) (k : Nat) : Nat → Nat
  | 0 => 0
  | c + 1 => L.sp1 p k c + if p k ≠ c ∧ L.bad (setp p k c) = true then 1 else 0
def Lt.sp (L : Lt) (p : Nat → Nat) : Nat → Nat
  | 0 => 0
  | k + 1 => L.sp p k + L.sp1 p k (L.m k)
theorem Lt.sp1_le (L : Lt) (p : Nat → Nat) (k : Nat) : ∀ c, L.sp1 p k c ≤ c := by
  intro c
  induction c with
  | zero => exact Nat.le_refl _
  | succ c ih => unfold Lt.sp1; split <;> omega
theorem Lt.Wf.sp_le {L : Lt} (hL : L.Wf) (p : Nat → Nat) : ∀ k, k ≤ L.n → L.sp p k ≤ 4 * k := by
  intro k
  induction k with
  | zero => intro _; exact Nat.le_refl _
  | succ k ih =>
    intro hk
    have := ih (by omega)
    have h1 := L.sp1_le p k (L.m k)
    have h2 := hL.m1 k (by omega)
    unfold Lt.sp; omega
def Lt.spo (L : Lt) : Int32 := match L.B with
  | none => -4
  | some b => nI (L.sp (L.pk b) L.n)
theorem spoilt_ok {G : gP} {L : Lt} (hL : L.Wf) (hR : mRow G 1 0 L) : Ok (f_X11_spoilt G) (fun q => gOff qZ G q.1 ∧ q.2 = L.spo) := by
  unfold f_X11_spoilt Lt.spo
  have h8 := hL.n8
  have hN := hL.N_le
  refine Ok.bind (finds_ok hL hR) (fun G1 h1 => ?_)
  obtain ⟨hO, hF⟩ := h1
  have hO' := hO.w (fun k j => qZ_f)
  rw [hF.best]
  cases hb : L.B with
  | none => unfold Lt.B at hb; rw [hb, rI_none, if_pos rfl]; exact ⟨_, rfl, hO', rfl⟩
  | some b =>
    have hbl := L.B_lt hb
    unfold Lt.B at hb
    rw [hb, if_neg (rI_ne (by omega))]
    obtain ⟨nb, heb, hsb⟩ := L.so_ev hbl.2
    refine Ok.bind (Q := fun q => gOff qZ G q.1 ∧ q.2 = nI (L.sp (L.pk b) L.n)) ?_ (fun q hq => ⟨_, rfl, hq⟩)
    have hpb := hL.pk_ok b
    refine Ok.up (fun k s => gOff qZ G s.1 ∧ gS s.1 0 10 = nI b ∧ s.2 = (nI (L.sp (L.pk b) k), nI k)) L.n (by omega) ?_ ?_ ⟨hO', by rw [hF.best, hb]; rfl, rfl⟩
    · rintro k ⟨G2, z⟩ hk ⟨hO2, h10, hz⟩
      simp only at hO2 h10 hz
      subst hz
      unfold f_X11_spoilt_b20
      have hR2 := hR.q hO2
      have hspk := hL.sp_le (L.pk b) k (by omega)
      have hm := hL.m1 k hk
      simp (disch := omega) only [nLit, neg_nI, nI_add, pk_mul, nI_sub1, nI_clamp, gIn_t, gck_t, gLet_e, nI_leI, nI_ltJ, nI_eq, nI_nM_eq, nM_nI_eq, nM_eq, nM_nI_le, nI_nM_le, nM_nI_lt, nI_nM_lt, at_nI, gS_at, gS_ne', obind_some, iteT, iteF, ite_p, ite_n, hR2.1]
      refine Ok.bind (Q := fun q => gOff qZ G q.1 ∧ gS q.1 0 10 = nI b ∧ q.2 = nI (L.sp (L.pk b) (k + 1))) ?_ (fun q hq => ⟨_, rfl, hq.1, hq.2.1, by simp only; rw [hq.2.2]⟩)
      refine Ok.up (fun c s => gOff qZ G s.1 ∧ gS s.1 0 10 = nI b ∧ s.2 = (nI (L.sp (L.pk b) k + L.sp1 (L.pk b) k c), nI c)) (L.m k) (by omega) ?_ ?_ ⟨hO2, h10, rfl⟩
      · rintro c ⟨G3, z⟩ hc ⟨hO3, h10, hz⟩
        simp only at hO3 h10 hz
        subst hz
        have hR3 := hR.q hO3
        have e0 := (hR3.2.2.2.2 k hk).1
        rw [show 0 + 4 + 9 * k = 4 + 9 * k by omega] at e0
        have hs1 := L.sp1_le (L.pk b) k c
        unfold f_X11_spoilt_b32
        simp (disch := omega) only [nLit, neg_nI, nI_add, pk_mul, nI_sub1, nI_clamp, gIn_t, gck_t, gLet_e, nI_leI, nI_ltJ, nI_eq, nI_nM_eq, nM_nI_eq, nM_eq, nM_nI_le, nI_nM_le, nM_nI_lt, nI_nM_lt, at_nI, gS_at, gS_ne', obind_some, iteT, iteF, ite_p, ite_n, e0, h10]
        refine Ok.bind (takes_ok hL hR3 (show b < 2 ^ 31 by omega)) (fun q hq => ?_)
        obtain ⟨hO4, hp, hcs, hmm⟩ := hq
        rw [heb] at hmm
        obtain ⟨hm1, -⟩ := hmm
        have hO5 := hO3.tr (hO4.w (fun k j => qZ_t))
        have q10 : gS q.1 0 10 = nI b := by rw [(hO4 0 10 rfl).1]; exact h10
        have hpl := hL.pk_lt (r := b) hk
        have hsp : mPk (gS1 q.1 2 k (nI c)) L.n (setp (L.pk b) k c) := by
          intro i hi
          unfold setp
          by_cases e : i = k
          · subst e; rw [gS_at, if_pos rfl]
          · rw [gS_ne (by omega), if_neg e]; exact hp i hi
        have hpo : L.pOk (setp (L.pk b) k c) := by
          intro i hi
          unfold setp
          by_cases e : i = k
          · subst e; rw [if_pos rfl]; exact hc
          · rw [if_neg e]; exact hpb i hi
        have hO6 : gOff qZ G (gS1 q.1 2 k (nI c)) := hO5.S1 (by simp [qZ])
        have g10 : gS (gS1 q.1 2 k (nI c)) 0 10 = nI b := by rw [gS_ne (by omega)]; exact q10
        rw [hm1]
        simp (disch := omega) only [nLit, neg_nI, nI_add, pk_mul, nI_sub1, nI_clamp, gIn_t, gck_t, gLet_e, nI_leI, nI_ltJ, nI_eq, nI_nM_eq, nM_nI_eq, nM_eq, nM_nI_le, nI_nM_le, nM_nI_lt, nI_nM_lt, at_nI, gS_at, gS_ne', obind_some, iteT, iteF, ite_p, ite_n, hp k hk]
        by_cases hoth : L.pk b k = c
        · simp (disch := omega) only [nLit, neg_nI, nI_add, pk_mul, nI_sub1, nI_clamp, gIn_t, gck_t, gLet_e, nI_leI, nI_ltJ, nI_eq, nI_nM_eq, nM_nI_eq, nM_eq, nM_nI_le, nI_nM_le, nM_nI_lt, nI_nM_lt, at_nI, gS_at, gS_ne', obind_some, iteT, iteF, ite_p, ite_n]
          refine ⟨_, rfl, hO6, g10, ?_⟩
          simp only [Lt.sp1]
          rw [if_neg (fun z => z.1 hoth)]; rfl
        · simp (disch := omega) only [nLit, neg_nI, nI_add, pk_mul, nI_sub1, nI_clamp, gIn_t, gck_t, gLet_e, nI_leI, nI_ltJ, nI_eq, nI_nM_eq, nM_nI_eq, nM_eq, nM_nI_le, nI_nM_le, nM_nI_lt, nI_nM_lt, at_nI, gS_at, gS_ne', obind_some, iteT, iteF, ite_p, ite_n]
          refine Ok.bind (Q := fun r : gP × Int32 => gOff qZ G r.1 ∧ gS r.1 0 10 = nI b ∧ r.2 = nI (if L.bad (setp (L.pk b) k c) = true then 1 else 0)) ?_ (fun r hr => ?_)
          · refine Ok.bind (takesPicked_ok hL (hR.q hO6) hpo hsp) (fun r hr => ?_)
            obtain ⟨hO7, hc7, hm7⟩ := hr
            have hO8 : gOff qZ G r.1 := hO6.tr (hO7.w (fun k j h => by simp [qZ] at h; simp; omega))
            have r10 : gS r.1 0 10 = nI b := by rw [(hO7 0 10 rfl).1]; exact g10
            cases ht : L.tell (setp (L.pk b) k c) with
            | none =>
              rw [ht] at hm7
              simp only at hm7
              rw [hm7, if_pos (by decide)]
              exact ⟨_, rfl, hO8, r10, by unfold Lt.bad; rw [ht]; rfl⟩
            | some ns =>
              rw [ht] at hm7
              rw [hm7.1, if_neg (by decide)]
              have hok := hm7.2.ok hL hpo ht
              refine Ok.bind (holds_ok hL (hR.q hO8) hm7.2 hok) (fun y hy => ?_)
              rw [hy]
              have ebad : L.bad (setp (L.pk b) k c) = !sound L.kind ns := by unfold Lt.bad; rw [ht]
              rw [ebad]
              cases sound L.kind ns with
              | false => rw [if_pos (by decide)]; exact ⟨_, rfl, hO8, r10, rfl⟩
              | true => rw [if_neg (by decide)]; exact ⟨_, rfl, hO8, r10, rfl⟩
          · obtain ⟨h1, h2, h3⟩ := hr
            rw [h3]
            simp (disch := omega) only [nLit, neg_nI, nI_add, pk_mul, nI_sub1, nI_clamp, gIn_t, gck_t, gLet_e, nI_leI, nI_ltJ, nI_eq, nI_nM_eq, nM_nI_eq, nM_eq, nM_nI_le, nI_nM_le, nM_nI_lt, nI_nM_lt, at_nI, gS_at, gS_ne', obind_some, iteT, iteF, ite_p, ite_n]
            refine ⟨_, rfl, h1, h2, ?_⟩
            simp only [Lt.sp1]
            by_cases hbd : L.bad (setp (L.pk b) k c) = true
            · rw [if_pos hbd, if_pos ⟨hoth, hbd⟩, Nat.add_assoc]
            · rw [if_neg hbd, if_neg (fun z => hbd z.2), Nat.add_assoc]
      · rintro ⟨G3, z⟩ ⟨hO3, h10, hz⟩
        simp only at hO3 h10 hz
        subst hz
        have hR3 := hR.q hO3
        have e0 := (hR3.2.2.2.2 k hk).1
        rw [show 0 + 4 + 9 * k = 4 + 9 * k by omega] at e0
        unfold f_X11_spoilt_b32
        simp (disch := omega) only [nLit, neg_nI, nI_add, pk_mul, nI_sub1, nI_clamp, gIn_t, gck_t, gLet_e, nI_leI, nI_ltJ, nI_eq, nI_nM_eq, nM_nI_eq, nM_eq, nM_nI_le, nI_nM_le, nM_nI_lt, nI_nM_lt, at_nI, gS_at, gS_ne', obind_some, iteT, iteF, ite_p, ite_n, e0]
        exact ⟨_, rfl, hO3, h10, rfl⟩
    · rintro ⟨G2, z⟩ ⟨hO2, h10, hz⟩
      simp only at hO2 h10 hz
      subst hz
      unfold f_X11_spoilt_b20
      simp (disch := omega) only [nLit, neg_nI, nI_add, pk_mul, nI_sub1, nI_clamp, gIn_t, gck_t, gLet_e, nI_leI, nI_ltJ, nI_eq, nI_nM_eq, nM_nI_eq, nM_eq, nM_nI_le, nI_nM_le, nM_nI_lt, nI_nM_lt, at_nI, gS_at, gS_ne', obind_some, iteT, iteF, ite_p, ite_n, (hR.q hO2).1]
      exact ⟨_, rfl, hO2, rfl⟩
/-- longs by their number -/
def iL (n : Nat) : Int64 := Int64.ofNat n
theorem iL_add (a b : Nat) : iL a + iL b = iL (a + b) := (Int64.ofNat_add a b).symm
theorem iL_mul (a b : Nat) : iL a * iL b = iL (a * b) := (Int64.ofNat_mul a b).symm
theorem iL_toInt {n : Nat} (h : n < 2 ^ 63) : (iL n).toInt = (n : Int) := Int64.toInt_ofNat_of_lt h
theorem iL_0 {n : Nat} (h : n < 2 ^ 63) : iL n = 0 ↔ n = 0 := by
  rw [← Int64.toInt_inj, iL_toInt h]
  show (n : Int) = 0 ↔ _
  omega
theorem iL_div {a b : Nat} (ha : a < 2 ^ 63) (hb : b < 2 ^ 63) : iL a / iL b = iL (a / b) := by
  have h1 : a / b ≤ a := Nat.div_le_self _ _
  rw [← Int64.toInt_inj, Int64.toInt_div_of_ne_left _ _ (fun z => by
    have := congrArg Int64.toInt z
    rw [iL_toInt ha] at this
    have e : Int64.minValue.toInt = -9223372036854775808 := by decide
    omega), iL_toInt ha, iL_toInt hb, iL_toInt (by omega)]
  rw [Int.ofNat_tdiv]
theorem iL_rem {a b : Nat} (ha : a < 2 ^ 63) (hb : b < 2 ^ 63) (h0 : 0 < b) : gRemL (iL a) (iL b) = iL (a % b) := by
  unfold gRemL
  rw [iL_div ha hb, iL_mul]
  have h1 : a / b * b + a % b = a := Nat.div_add_mod' a b
  have h2 : iL a = iL (a % b) + iL (a / b * b) := by rw [iL_add, Nat.add_comm, h1]
  rw [h2, Int64.add_sub_cancel]
/-- what a reading weighs -/
def Lt.wt (L : Lt) (p : Nat → Nat) : Nat → Nat
  | 0 => 1
  | i + 1 => L.wt p i * (10 - L.c i (p i))
def Lt.lst (L : Lt) (r : Nat) : Nat := ((L.ev r).getD []).getLastD 0
def Lt.wB (L : Lt) : Nat → Nat
  | 0 => 0
  | t + 1 => if L.so t = true then L.wB t + L.wt (L.pk t) L.n else L.wB t
def Lt.wA (L : Lt) (v : Nat) : Nat → Nat
  | 0 => 0
  | t + 1 => if L.so t = true ∧ L.lst t = v then L.wA v t + L.wt (L.pk t) L.n else L.wA v t
theorem Lt.wt_le (L : Lt) (p : Nat → Nat) : ∀ i, L.wt p i ≤ 10 ^ i := by
  intro i
  induction i with
  | zero => exact Nat.le_refl _
  | succ i ih => unfold Lt.wt; rw [Nat.pow_succ]; exact Nat.mul_le_mul ih (by omega)
theorem Lt.Wf.wt8 {L : Lt} (hL : L.Wf) (p : Nat → Nat) : L.wt p L.n ≤ 100000000 := by
  have h1 := L.wt_le p L.n
  have h2 : 10 ^ L.n ≤ 10 ^ 8 := Nat.pow_le_pow_right (by decide) hL.n8
  omega
theorem Lt.Wf.wB_le {L : Lt} (hL : L.Wf) : ∀ t, L.wB t ≤ 100000000 * t := by
  intro t
  induction t with
  | zero => exact Nat.le_refl _
  | succ t ih =>
    have := hL.wt8 (L.pk t)
    unfold Lt.wB
    split <;> omega
theorem Lt.wA_le (L : Lt) (v : Nat) : ∀ t, L.wA v t ≤ L.wB t := by
  intro t
  induction t with
  | zero => exact Nat.le_refl _
  | succ t ih =>
    unfold Lt.wB Lt.wA
    by_cases h1 : L.so t = true
    · rw [if_pos h1]
      split <;> omega
    · rw [if_neg h1, if_neg (fun z => h1 z.1)]; exact ih
def sLikely (L : Lt) (a w : Int32) : Int64 := match rg a 0 1000000 with
  | none => -1
  | some v => match rg w 0 2 with
    | none => -1
    | some w => if L.wB L.N = 0 then -4 else if w = 0 then iL (L.wA v L.N / Nat.gcd (L.wA v L.N) (L.wB L.N)) else iL (L.wB L.N / Nat.gcd (L.wA v L.N) (L.wB L.N))
theorem gcd_ok {a b : Nat} (ha : a < 2 ^ 63) (hb : b < 2 ^ 63) {f : Int64 × Int64 → Option ((Int64 × Int64) ⊕ Int64)} (hf : f = f_X11_likely_b171) : Ok (gloop f gFu (iL a, iL b)) (fun r => r = iL (Nat.gcd a b)) := by
  subst hf
  refine Ok.loop (fun n s => ∃ x, x < 2 ^ 63 ∧ n < 2 ^ 63 ∧ s = (iL x, iL n) ∧ Nat.gcd x n = Nat.gcd a b) ?_ gFu b _ (by unfold gFu; omega) ⟨a, ha, hb, rfl, rfl⟩
  rintro n s ⟨x, hx, hn, rfl, hg⟩
  unfold f_X11_likely_b171
  simp only
  by_cases h0 : n = 0
  · subst h0
    rw [if_pos (show iL 0 = 0 from rfl)]
    refine ⟨_, rfl, ?_⟩
    simp only
    rw [← hg, Nat.gcd_zero_right]
  · have hne : ¬ iL n = 0 := fun z => h0 ((iL_0 hn).mp z)
    rw [if_neg hne]
    refine Ok.ck (decide_eq_true hne) ?_
    rw [iL_rem hx hn (by omega)]
    have hml := Nat.mod_lt x (show 0 < n by omega)
    refine ⟨_, rfl, x % n, hml, n, hn, by omega, rfl, ?_⟩
    rw [← hg, Nat.gcd_comm n, ← Nat.gcd_rec, Nat.gcd_comm]
theorem c10_L {c : Nat} (h : c < 10) : ((10 : Int32) - nI c).toInt64 = iL (10 - c) := by
  have : ∀ c : Fin 10, ((10 : Int32) - nI c.val).toInt64 = iL (10 - c.val) := by decide
  exact this ⟨c, h⟩
theorem likely_ok {G : gP} {L : Lt} (hL : L.Wf) (hR : mRow G 1 0 L) (a w : Int32) : Ok (f_X11_likely G a w) (fun q => gOff qZ G q.1 ∧ q.2 = sLikely L a w) := by
  unfold f_X11_likely sLikely
  have h8 := hL.n8
  have hN := hL.N_le
  rw [in_rg a (lo := 0) (hi := 1000000) rfl rfl]
  cases ha : rg a 0 1000000 with
  | none => exact ⟨_, rfl, gOff.rf, rfl⟩
  | some v =>
    obtain ⟨-, hv, rfl⟩ := rg_some ha
    simp only [Option.isSome_some, if_true]
    rw [if_neg (by decide), in_rg w (lo := 0) (hi := 2) rfl rfl]
    cases hw : rg w 0 2 with
    | none => exact ⟨_, rfl, gOff.rf, rfl⟩
    | some wn =>
      obtain ⟨-, hwn, rfl⟩ := rg_some hw
      simp only [Option.isSome_some, if_true]
      rw [if_neg (by decide)]
      refine Ok.bind (readings_ok hL hR) (fun y hy => ?_)
      subst hy
      refine Ok.bind (Q := fun q => gOff qZ G q.1 ∧ q.2 = (iL (L.wA v L.N), iL (L.wB L.N))) ?_ (fun q hq => ?_)
      · refine Ok.up (fun t s => gOff qZ G s.1 ∧ s.2 = (iL (L.wA v t), iL (L.wB t), nI t)) L.N (by omega) ?_ ?_ ⟨gOff.rf, rfl⟩
        · rintro t ⟨G1, z⟩ ht ⟨hO, hz⟩
          simp only at hO hz
          subst hz
          unfold f_X11_likely_b40
          simp (disch := omega) only [nLit, neg_nI, nI_add, pk_mul, nI_sub1, nI_clamp, gIn_t, gck_t, gLet_e, nI_leI, nI_ltJ, nI_eq, nI_nM_eq, nM_nI_eq, nM_eq, nM_nI_le, nI_nM_le, nM_nI_lt, nI_nM_lt, at_nI, gS_at, gS_ne', obind_some, iteT, iteF, ite_p, ite_n]
          refine Ok.bind (takes_ok hL (hR.q hO) (show t < 2 ^ 31 by omega)) (fun q hq => ?_)
          obtain ⟨hO2, hp, hc, hm⟩ := hq
          have hO3 := hO.tr (hO2.w (fun k j => qZ_t))
          cases he : L.ev t with
          | none =>
            rw [he] at hm
            simp only at hm
            have eso : L.so t = false := by unfold Lt.so; rw [he]
            rw [hm, if_pos (by decide)]
            refine ⟨_, rfl, hO3, ?_⟩
            simp only
            rw [Lt.wA, Lt.wB, eso, if_neg (fun z => by cases z.1), if_neg (by decide)]
          | some ns =>
            rw [he] at hm
            obtain ⟨hm1, hm2⟩ := hm
            have hok := hm2.ok hL (hL.pk_ok t) he
            rw [hm1, if_neg (by decide)]
            refine Ok.bind (holds_ok hL (hR.q hO3) hm2 hok) (fun y hy => ?_)
            have eso : L.so t = sound L.kind ns := by unfold Lt.so; rw [he]
            rw [hy, ← eso]
            cases hs : L.so t with
            | false =>
              rw [if_pos (by decide)]
              refine ⟨_, rfl, hO3, ?_⟩
              simp only
              rw [Lt.wA, Lt.wB, hs, if_neg (fun z => by cases z.1), if_neg (by decide)]
            | true =>
              rw [if_neg (by decide)]
              have hR3 := hR.q hO3
              refine Ok.bind (Q := fun x => x = iL (L.wt (L.pk t) L.n)) ?_ (fun x hx => ?_)
              · refine Ok.up (fun i s => s = (iL (L.wt (L.pk t) i), nI i)) L.n (by omega) ?_ ?_ rfl
                · rintro i s hi rfl
                  unfold f_X11_likely_b69
                  have hpl := hL.pk_lt (r := t) hi
                  have hm4 := hL.m1 i hi
                  have hc10 := hL.c10 i _ hi hpl
                  have e1 := ((hR3.2.2.2.2 i hi).2 _ hpl).2
                  rw [show 0 + 9 + 9 * i + L.pk t i = 4 + 9 * i + 5 + L.pk t i by omega] at e1
                  simp (disch := omega) only [nLit, neg_nI, nI_add, pk_mul, nI_sub1, nI_clamp, gIn_t, gck_t, gLet_e, nI_leI, nI_ltJ, nI_eq, nI_nM_eq, nM_nI_eq, nM_eq, nM_nI_le, nI_nM_le, nM_nI_lt, nI_nM_lt, at_nI, gS_at, gS_ne', obind_some, iteT, iteF, ite_p, ite_n, hR3.1, hp i hi, e1]
                  refine ⟨_, rfl, ?_⟩
                  have e10 : (nI 10 - nI (L.c i (L.pk t i))).toInt64 = iL (10 - L.c i (L.pk t i)) := c10_L hc10
                  simp only [e10, iL_mul, Lt.wt]
                · rintro s rfl
                  unfold f_X11_likely_b69
                  simp (disch := omega) only [nLit, neg_nI, nI_add, pk_mul, nI_sub1, nI_clamp, gIn_t, gck_t, gLet_e, nI_leI, nI_ltJ, nI_eq, nI_nM_eq, nM_nI_eq, nM_eq, nM_nI_le, nI_nM_le, nM_nI_lt, nI_nM_lt, at_nI, gS_at, gS_ne', obind_some, iteT, iteF, ite_p, ite_n, hR3.1]
                  exact ⟨_, rfl, rfl⟩
              · subst hx
                have hl8 := hok.2.1
                have hl1 := hok.1
                have e5 := nsF_aL hm2.2.1 (j := ns.length - 1) (by omega)
                rw [Nat.zero_add] at e5
                have hle := nsF_le hok (ns.length - 1)
                have hlst : L.lst t = nsF ns (ns.length - 1) := by
                  unfold Lt.lst nsF
                  rw [he]
                  show ns.getLastD 0 = _
                  rw [List.getD_eq_getElem?_getD, List.getLastD_eq_getLast?, List.getLast?_eq_getElem?]
                simp (disch := omega) only [nLit, neg_nI, nI_add, pk_mul, nI_sub1, nI_clamp, gIn_t, gck_t, gLet_e, nI_leI, nI_ltJ, nI_eq, nI_nM_eq, nM_nI_eq, nM_eq, nM_nI_le, nI_nM_le, nM_nI_lt, nI_nM_lt, at_nI, gS_at, gS_ne', obind_some, iteT, iteF, ite_p, ite_n, hm2.1, e5, ← hlst]
                have eB : L.wB (t + 1) = L.wB t + L.wt (L.pk t) L.n := by rw [Lt.wB, if_pos hs]
                by_cases hvl : L.lst t = v
                · have eA : L.wA v (t + 1) = L.wA v t + L.wt (L.pk t) L.n := by rw [Lt.wA, if_pos ⟨hs, hvl⟩]
                  rw [if_pos hvl, iL_add, iL_add]
                  exact ⟨_, rfl, hO3, by rw [eA, eB]⟩
                · have eA : L.wA v (t + 1) = L.wA v t := by rw [Lt.wA, if_neg (fun z => hvl z.2)]
                  rw [if_neg hvl, iL_add]
                  exact ⟨_, rfl, hO3, by rw [eA, eB]; simp only [show (0 : Int64) = iL 0 from rfl, iL_add, Nat.add_zero]⟩
        · rintro ⟨G1, z⟩ ⟨hO, hz⟩
          simp only at hO hz
          subst hz
          unfold f_X11_likely_b40
          simp (disch := omega) only [nLit, neg_nI, nI_add, pk_mul, nI_sub1, nI_clamp, gIn_t, gck_t, gLet_e, nI_leI, nI_ltJ, nI_eq, nI_nM_eq, nM_nI_eq, nM_eq, nM_nI_le, nI_nM_le, nM_nI_lt, nI_nM_lt, at_nI, gS_at, gS_ne', obind_some, iteT, iteF, ite_p, ite_n]
          exact ⟨_, rfl, hO, rfl⟩
      · obtain ⟨hO, hq2⟩ := hq
        have hBl := hL.wB_le L.N
        have hAl := L.wA_le v L.N
        rw [hq2]
        simp only
        by_cases h0 : L.wB L.N = 0
        · rw [if_pos h0, if_pos (by rw [h0]; rfl)]; exact ⟨_, rfl, hO, rfl⟩
        · rw [if_neg h0, if_neg (fun z => h0 ((iL_0 (by omega)).mp z))]
          refine Ok.bind (gcd_ok (by omega) (by omega) rfl) (fun r hr => ?_)
          subst hr
          have hg0 : 0 < Nat.gcd (L.wA v L.N) (L.wB L.N) := Nat.gcd_pos_of_pos_right _ (by omega)
          have hgl : Nat.gcd (L.wA v L.N) (L.wB L.N) ≤ L.wB L.N := Nat.gcd_le_right _ (by omega)
          have hgz : gNzL (iL (Nat.gcd (L.wA v L.N) (L.wB L.N))) = true := decide_eq_true (fun z => by have := (iL_0 (by omega)).mp z; omega)
          rw [hgz]
          simp (disch := omega) only [nLit, neg_nI, nI_add, pk_mul, nI_sub1, nI_clamp, gIn_t, gck_t, gLet_e, nI_leI, nI_ltJ, nI_eq, nI_nM_eq, nM_nI_eq, nM_eq, nM_nI_le, nI_nM_le, nM_nI_lt, nI_nM_lt, at_nI, gS_at, gS_ne', obind_some, iteT, iteF, ite_p, ite_n]
          rw [iL_div (by omega) (by omega), iL_div (by omega) (by omega)]
          by_cases hw0 : wn = 0
          · rw [if_pos hw0, if_pos hw0]; exact ⟨_, rfl, hO, rfl⟩
          · rw [if_neg hw0, if_neg hw0]; exact ⟨_, rfl, hO, rfl⟩
/-- a slot told -/
def sSlot (L : Lt) (a k w : Int32) : Int32 := match rg a 0 L.n with
  | none => -1
  | some s => if k < -1 then -1 else match rg w 0 2 with
    | none => -1
    | some w => if k = -1 then nI (L.m s) else match rg k 0 (L.m s) with
      | none => -4
      | some j => if w = 0 then nI (L.w s j) else nI (L.c s j)
theorem slot_ok {G : gP} {L : Lt} (hL : L.Wf) (hR : mRow G 1 0 L) (a k w : Int32) : Ok (f_X11_slot G a k w) (fun r => r = sSlot L a k w) := by
  unfold f_X11_slot sSlot
  have h8 := hL.n8
  rw [isSlot_rg hL.n8 hR.1]
  cases ha : rg a 0 L.n with
  | none => exact ⟨_, rfl, rfl⟩
  | some s =>
    obtain ⟨-, hs, rfl⟩ := rg_some ha
    simp only [Option.isSome_some, if_true]
    rw [if_neg (by decide)]
    by_cases hk1 : k < -1
    · rw [if_pos hk1, if_pos hk1]; exact ⟨_, rfl, rfl⟩
    · rw [if_neg hk1, if_neg hk1, in_rg w (lo := 0) (hi := 2) rfl rfl]
      cases hw : rg w 0 2 with
      | none => exact ⟨_, rfl, rfl⟩
      | some wn =>
        obtain ⟨-, hwn, rfl⟩ := rg_some hw
        simp only [Option.isSome_some, if_true]
        rw [if_neg (by decide)]
        have hm := hL.m1 s hs
        have e0 := (hR.2.2.2.2 s hs).1
        rw [show 0 + 4 + 9 * s = 4 + 9 * s by omega] at e0
        by_cases hkm : k = -1
        · rw [if_pos hkm, if_pos hkm]
          simp (disch := omega) only [nLit, neg_nI, nI_add, pk_mul, nI_sub1, nI_clamp, gIn_t, gck_t, gLet_e, nI_leI, nI_ltJ, nI_eq, nI_nM_eq, nM_nI_eq, nM_eq, nM_nI_le, nI_nM_le, nM_nI_lt, nI_nM_lt, at_nI, gS_at, gS_ne', obind_some, iteT, iteF, ite_p, ite_n, e0]; exact ⟨_, rfl, rfl⟩
        · rw [if_neg hkm, if_neg hkm]
          have hk0 : 0 ≤ k.toInt := by
            have x1 : ¬ k.toInt < (-1 : Int32).toInt := fun z => hk1 (Int32.lt_iff_toInt_lt.mpr z)
            have x2 : k.toInt ≠ -1 := fun z => hkm (Int32.toInt_inj.mp (z.trans (by decide)))
            have x4 : ((-1 : Int32)).toInt = -1 := by decide
            omega
          have hra : k = nI k.toInt.toNat := nJ_of (by omega)
          have hal : k.toInt.toNat < 2 ^ 31 := by have := k.toInt_lt; omega
          generalize k.toInt.toNat = j at *
          subst hra
          simp only [rg_nI hal]
          by_cases hj : j < L.m s
          · have e1 := ((hR.2.2.2.2 s hs).2 j hj).1
            have e2 := ((hR.2.2.2.2 s hs).2 j hj).2
            by_cases hw0 : wn = 0
            · subst hw0
              rw [show 0 + 5 + 9 * s + j = 4 + 9 * s + 1 + 4 * 0 + j by omega] at e1
              simp (disch := omega) only [nLit, neg_nI, nI_add, pk_mul, nI_sub1, nI_clamp, gIn_t, gck_t, gLet_e, nI_leI, nI_ltJ, nI_eq, nI_nM_eq, nM_nI_eq, nM_eq, nM_nI_le, nI_nM_le, nM_nI_lt, nI_nM_lt, at_nI, gS_at, gS_ne', obind_some, iteT, iteF, ite_p, ite_n, e0, e1]; exact ⟨_, rfl, rfl⟩
            · have hw1 : wn = 1 := by omega
              subst hw1
              rw [show 0 + 9 + 9 * s + j = 4 + 9 * s + 1 + 4 * 1 + j by omega] at e2
              simp (disch := omega) only [nLit, neg_nI, nI_add, pk_mul, nI_sub1, nI_clamp, gIn_t, gck_t, gLet_e, nI_leI, nI_ltJ, nI_eq, nI_nM_eq, nM_nI_eq, nM_eq, nM_nI_le, nI_nM_le, nM_nI_lt, nI_nM_lt, at_nI, gS_at, gS_ne', obind_some, iteT, iteF, ite_p, ite_n, e0, e2]; exact ⟨_, rfl, rfl⟩
          · simp (disch := omega) only [nLit, neg_nI, nI_add, pk_mul, nI_sub1, nI_clamp, gIn_t, gck_t, gLet_e, nI_leI, nI_ltJ, nI_eq, nI_nM_eq, nM_nI_eq, nM_eq, nM_nI_le, nI_nM_le, nM_nI_lt, nI_nM_lt, at_nI, gS_at, gS_ne', obind_some, iteT, iteF, ite_p, ite_n, e0]; exact ⟨_, rfl, rfl⟩
noncomputable def sCount (L : Lt) (u : Nat) (a : Int32) : Int32 :=
  if a = 0 then nI L.n else if a = 1 then nI L.kind else if a = 2 then nI L.slack else if a = 3 then nI (L.saidN L.N) else if a = 4 then nI (L.soundN L.N) else if a = 5 then nI L.C.length
  else if a = 6 then rI (lk (fun k => mx (L.hv L.C k) 32) L.C.length L.n).1 else if a = 7 then L.qs else if a = 8 then (if L.nx L.N = 9999 then -4 else nI (L.nx L.N)) else if a = 9 then L.spo else if a = 10 then nI u else -1
theorem count_ok {G : gP} {L : Lt} (hL : L.Wf) (hR : mRow G 1 0 L) {u : Nat} (hu : gS G 0 29 = nI u) (a : Int32) : Ok (f_X11_count G a) (fun q => gOff qZ G q.1 ∧ q.2 = sCount L u a) := by
  unfold f_X11_count sCount
  have hN := hL.N_le
  have hCl : L.C.length ≤ L.N := L.cl_len L.N
  refine Ok.ite (fun h => ?_) (fun h => ?_)
  · rw [if_pos h]; exact ⟨_, rfl, gOff.rf, hR.1⟩
  rw [if_neg h]; clear h
  refine Ok.ite (fun h => ?_) (fun h => ?_)
  · rw [if_pos h]; exact ⟨_, rfl, gOff.rf, hR.2.1⟩
  rw [if_neg h]; clear h
  refine Ok.ite (fun h => ?_) (fun h => ?_)
  · rw [if_pos h]; exact ⟨_, rfl, gOff.rf, hR.2.2.1⟩
  rw [if_neg h]; clear h
  refine Ok.ite (fun h => ?_) (fun h => ?_)
  · rw [if_pos h]; exact Ok.bind (finds_ok hL hR) (fun G1 h1 => ⟨_, rfl, h1.1.w (fun k j => qZ_f), h1.2.said⟩)
  rw [if_neg h]; clear h
  refine Ok.ite (fun h => ?_) (fun h => ?_)
  · rw [if_pos h]; exact Ok.bind (finds_ok hL hR) (fun G1 h1 => ⟨_, rfl, h1.1.w (fun k j => qZ_f), h1.2.snd⟩)
  rw [if_neg h]; clear h
  refine Ok.ite (fun h => ?_) (fun h => ?_)
  · rw [if_pos h]; exact Ok.bind (counts_ok hL hR) (fun G1 h1 => ⟨_, rfl, h1.1.w (fun k j => qZ_c), h1.2.many⟩)
  rw [if_neg h]; clear h
  refine Ok.ite (fun h => ?_) (fun h => ?_)
  · rw [if_pos h]
    refine Ok.bind (counts_ok hL hR) (fun G1 h1 => ?_)
    have hO' := h1.1.w (fun k j => qZ_c)
    rw [h1.2.many]
    refine Ok.bind (look_ok hL (hR.q hO').1 (h := fun k w => L.hv L.C k w) (fun k w => ?_) h1.2.have' (by omega)) (fun r hr => ⟨_, rfl, hO', hr⟩)
    have := L.hv_le L.C k w
    omega
  rw [if_neg h]; clear h
  refine Ok.ite (fun h => ?_) (fun h => ?_)
  · rw [if_pos h]; exact Ok.bind (questions_ok hL hR) (fun q hq => ⟨_, rfl, hq⟩)
  rw [if_neg h]; clear h
  refine Ok.ite (fun h => ?_) (fun h => ?_)
  · rw [if_pos h]
    refine Ok.bind (counts_ok hL hR) (fun G1 h1 => ?_)
    have hO' := h1.1.w (fun k j => qZ_c)
    have hnx := Lt.nx_le hL L.N
    simp (disch := omega) only [nLit, neg_nI, nI_add, pk_mul, nI_sub1, nI_clamp, gIn_t, gck_t, gLet_e, nI_leI, nI_ltJ, nI_eq, nI_nM_eq, nM_nI_eq, nM_eq, nM_nI_le, nI_nM_le, nM_nI_lt, nI_nM_lt, at_nI, gS_at, gS_ne', obind_some, iteT, iteF, ite_p, ite_n, h1.2.next]
    by_cases h9 : L.nx L.N = 9999
    · rw [if_pos h9, if_pos h9]; exact ⟨_, rfl, hO', rfl⟩
    · rw [if_neg h9, if_neg h9]; exact ⟨_, rfl, hO', rfl⟩
  rw [if_neg h]; clear h
  refine Ok.ite (fun h => ?_) (fun h => ?_)
  · rw [if_pos h]; exact Ok.bind (spoilt_ok hL hR) (fun q hq => ⟨_, rfl, hq⟩)
  rw [if_neg h]; clear h
  refine Ok.ite (fun h => ?_) (fun h => ?_)
  · rw [if_pos h]; exact ⟨_, rfl, gOff.rf, hu⟩
  · rw [if_neg h]; exact ⟨_, rfl, gOff.rf, rfl⟩
end
section
/-! what is kept; the Model: what is done -/
def St : Type := Lt × (List Lt) × (Option (Lt × List Lt)) × (List Nat) × (Nat → Option (Nat × List Int64))
def St.now (x : St) : Lt := x.1
def St.past (x : St) : List Lt := x.2.1
def St.kept (x : St) : Option (Lt × List Lt) := x.2.2.1
def St.tape (x : St) : List Nat := x.2.2.2.1
def St.sh (x : St) : Nat → Option (Nat × List Int64) := x.2.2.2.2
def St.of (x0 : Lt) (x1 : List Lt) (x2 : Option (Lt × List Lt)) (x3 : List Nat) (x4 : Nat → Option (Nat × List Int64)) : St := ⟨x0, x1, x2, x3, x4⟩
theorem St.mk_now (x0 : Lt) (x1 : List Lt) (x2 : Option (Lt × List Lt)) (x3 : List Nat) (x4 : Nat → Option (Nat × List Int64)) : St.now (St.of x0 x1 x2 x3 x4) = x0 := rfl
theorem St.mk_past (x0 : Lt) (x1 : List Lt) (x2 : Option (Lt × List Lt)) (x3 : List Nat) (x4 : Nat → Option (Nat × List Int64)) : St.past (St.of x0 x1 x2 x3 x4) = x1 := rfl
theorem St.mk_kept (x0 : Lt) (x1 : List Lt) (x2 : Option (Lt × List Lt)) (x3 : List Nat) (x4 : Nat → Option (Nat × List Int64)) : St.kept (St.of x0 x1 x2 x3 x4) = x2 := rfl
theorem St.mk_tape (x0 : Lt) (x1 : List Lt) (x2 : Option (Lt × List Lt)) (x3 : List Nat) (x4 : Nat → Option (Nat × List Int64)) : St.tape (St.of x0 x1 x2 x3 x4) = x3 := rfl
theorem St.mk_sh (x0 : Lt) (x1 : List Lt) (x2 : Option (Lt × List Lt)) (x3 : List Nat) (x4 : Nat → Option (Nat × List Int64)) : St.sh (St.of x0 x1 x2 x3 x4) = x4 := rfl
def St.Wf (S : St) : Prop := (S.now.Wf) ∧ (∀ L ∈ S.past, L.Wf) ∧ (S.past.length ≤ 8) ∧ (∀ L p, S.kept = some (L, p) → L.Wf ∧ (∀ L ∈ p, L.Wf) ∧ p.length ≤ 8) ∧ (S.tape.length ≤ 120 ∧ ∀ v ∈ S.tape, 32 ≤ v ∧ v ≤ 126) ∧ (∀ s k l, S.sh s = some (k, l) → k < 4 ∧ l.length ≤ 24)
theorem St.Wf.now {S : St} (h : St.Wf S) : (S.now.Wf) := h.1
theorem St.Wf.past {S : St} (h : St.Wf S) : (∀ L ∈ S.past, L.Wf) := h.2.1
theorem St.Wf.p8 {S : St} (h : St.Wf S) : (S.past.length ≤ 8) := h.2.2.1
theorem St.Wf.kept {S : St} (h : St.Wf S) : (∀ L p, S.kept = some (L, p) → L.Wf ∧ (∀ L ∈ p, L.Wf) ∧ p.length ≤ 8) := h.2.2.2.1
theorem St.Wf.tape {S : St} (h : St.Wf S) : (S.tape.length ≤ 120 ∧ ∀ v ∈ S.tape, 32 ≤ v ∧ v ≤ 126) := h.2.2.2.2.1
theorem St.Wf.sh {S : St} (h : St.Wf S) : (∀ s k l, S.sh s = some (k, l) → k < 4 ∧ l.length ≤ 24) := h.2.2.2.2.2
def mSt (S : St) (G : gP) : Prop := (mRow G 1 0 S.now) ∧ (gS G 0 29 = nI S.past.length) ∧ (∀ i L, S.past[i]? = some L → mRow G 14 (76 * i) L) ∧ (match S.kept with
    | none => gS G 0 32 = -1
    | some (L, p) => mRow G 15 0 L ∧ gS G 0 32 = nI p.length ∧ ∀ i L, p[i]? = some L → mRow G 16 (76 * i) L) ∧ (gS G 0 23 = nI S.tape.length) ∧ (aL G 11 0 S.tape) ∧ (∀ s, s < 4 → match S.sh s with
    | none => gS G 17 s = -1
    | some (k, l) => gS G 17 s = nI k ∧ gS G 18 s = nI l.length ∧ ∀ i v, l[i]? = some v → gL G 19 (24 * s + i) = v)
theorem mSt.now {S : St} {G : gP} (h : mSt S G) : (mRow G 1 0 S.now) := h.1
theorem mSt.un {S : St} {G : gP} (h : mSt S G) : (gS G 0 29 = nI S.past.length) := h.2.1
theorem mSt.past {S : St} {G : gP} (h : mSt S G) : (∀ i L, S.past[i]? = some L → mRow G 14 (76 * i) L) := h.2.2.1
theorem mSt.kept {S : St} {G : gP} (h : mSt S G) : (match S.kept with
    | none => gS G 0 32 = -1
    | some (L, p) => mRow G 15 0 L ∧ gS G 0 32 = nI p.length ∧ ∀ i L, p[i]? = some L → mRow G 16 (76 * i) L) := h.2.2.2.1
theorem mSt.tp {S : St} {G : gP} (h : mSt S G) : (gS G 0 23 = nI S.tape.length) := h.2.2.2.2.1
theorem mSt.tape {S : St} {G : gP} (h : mSt S G) : (aL G 11 0 S.tape) := h.2.2.2.2.2.1
theorem mSt.sh {S : St} {G : gP} (h : mSt S G) : (∀ s, s < 4 → match S.sh s with
    | none => gS G 17 s = -1
    | some (k, l) => gS G 17 s = nI k ∧ gS G 18 s = nI l.length ∧ ∀ i v, l[i]? = some v → gL G 19 (24 * s + i) = v) := h.2.2.2.2.2.2
theorem mRow.off' {Z : Nat → Nat → Bool} {G G' : gP} {k o : Nat} {L : Lt} (hL : L.Wf) (h : mRow G k o L) (hO : gOff Z G G') (hz : ∀ j, o ≤ j → j < o + 76 → Z k j = false) : mRow G' k o L := by
  obtain ⟨h1, h2, h3, h4, h5⟩ := h
  have h8 := hL.n8
  refine ⟨?_, ?_, ?_, ?_, fun i hi => ⟨?_, fun j hj => ⟨?_, ?_⟩⟩⟩
  · rw [(hO k _ (hz _ (by omega) (by omega))).1]; exact h1
  · rw [(hO k _ (hz _ (by omega) (by omega))).1]; exact h2
  · rw [(hO k _ (hz _ (by omega) (by omega))).1]; exact h3
  · rw [(hO k _ (hz _ (by omega) (by omega))).1]; exact h4
  · rw [(hO k _ (hz _ (by omega) (by omega))).1]; exact (h5 i hi).1
  · have := hL.m1 i hi
    rw [(hO k _ (hz _ (by omega) (by omega))).1]; exact ((h5 i hi).2 j hj).1
  · have := hL.m1 i hi
    rw [(hO k _ (hz _ (by omega) (by omega))).1]; exact ((h5 i hi).2 j hj).2
theorem mRow.cp {G G' : gP} {k o k' o' : Nat} {L : Lt} (hL : L.Wf) (h : mRow G k o L) (hc : ∀ j, j < 76 → gS G' k' (o' + j) = gS G k (o + j)) : mRow G' k' o' L := by
  obtain ⟨h1, h2, h3, h4, h5⟩ := h
  have h8 := hL.n8
  have hc' : ∀ a b : Nat, ∀ j, a = o' + j → b = o + j → j < 76 → gS G' k' a = gS G k b := fun a b j e1 e2 hj => by subst e1 e2; exact hc j hj
  refine ⟨?_, ?_, ?_, ?_, fun i hi => ⟨?_, fun j hj => ⟨?_, ?_⟩⟩⟩
  · exact (hc' _ _ 0 rfl rfl (by omega)).trans h1
  · rw [hc' _ (o + 1) 1 rfl rfl (by omega)]; exact h2
  · rw [hc' _ (o + 2) 2 rfl rfl (by omega)]; exact h3
  · rw [hc' _ (o + 3) 3 rfl rfl (by omega)]; exact h4
  · rw [hc' _ (o + 4 + 9 * i) (4 + 9 * i) (by omega) (by omega) (by omega)]; exact (h5 i hi).1
  · have := hL.m1 i hi
    rw [hc' _ (o + 5 + 9 * i + j) (5 + 9 * i + j) (by omega) (by omega) (by omega)]; exact ((h5 i hi).2 j hj).1
  · have := hL.m1 i hi
    rw [hc' _ (o + 9 + 9 * i + j) (9 + 9 * i + j) (by omega) (by omega) (by omega)]; exact ((h5 i hi).2 j hj).2
/-- cells copied one by one -/
theorem cpy_ok {f : gP × Int32 → Option ((gP × Int32) ⊕ gP)} {G : gP} {N dst sd src ss : Nat} (hN : N < 2 ^ 30) (hne : src ≠ dst)
    (hs : ∀ G1 i, gOff (fun k _ => decide (k = dst)) G G1 → i < N → f (G1, nI i) = some (.inl (gS1 G1 dst (sd + i) (gS G1 src (ss + i)), nI (i + 1))))
    (hl : ∀ G1, gOff (fun k _ => decide (k = dst)) G G1 → f (G1, nI N) = some (.inr G1)) :
    Ok (gloop f gFu (G, (0 : Int32))) (fun G' => gOff (fun k j => decide (k = dst ∧ sd ≤ j ∧ j < sd + N)) G G' ∧ ∀ j, j < N → gS G' dst (sd + j) = gS G src (ss + j)) := by
  have hw : ∀ {G1 : gP}, gOff (fun k j => decide (k = dst ∧ sd ≤ j ∧ j < sd + N)) G G1 → gOff (fun k _ => decide (k = dst)) G G1 := fun h => h.w (fun k j hz => by simp at hz ⊢; intro e; exact (hz e).elim)
  refine Ok.up (fun i s => s.2 = nI i ∧ gOff (fun k j => decide (k = dst ∧ sd ≤ j ∧ j < sd + N)) G s.1 ∧ ∀ j, j < i → gS s.1 dst (sd + j) = gS G src (ss + j)) N (by omega) ?_ ?_ ⟨rfl, gOff.rf, fun j hj => by omega⟩
  · rintro i ⟨G1, x⟩ hi ⟨hx, hO, hc⟩
    simp only at hx hO hc
    subst hx
    refine ⟨_, hs G1 i (hw hO) hi, rfl, hO.S1 (by simp; omega), fun j hj => ?_⟩
    simp only
    by_cases e : j = i
    · subst e; rw [gS_at, (hO src _ (by simp [hne])).1]
    · rw [gS_ne (by omega)]; exact hc j (by omega)
  · rintro ⟨G1, x⟩ ⟨hx, hO, hc⟩
    simp only at hx hO hc
    subst hx
    exact ⟨_, hl G1 (hw hO), hO, hc⟩
def pushP (p : List Lt) (L : Lt) : List Lt := (if p.length = 8 then p.tail else p) ++ [L]
theorem pushP_len {p : List Lt} {L : Lt} (h : p.length ≤ 8) : (pushP p L).length = if p.length = 8 then 8 else p.length + 1 := by
  unfold pushP
  split
  · rename_i e; simp [e]
  · simp
/-- what notes changes -/
def noZ (k j : Nat) : Bool := decide (k = 14 ∨ (k = 0 ∧ j = 29))
theorem notes_ok {G : gP} {L : Lt} {p : List Lt} (hL : L.Wf) (hp : ∀ L ∈ p, L.Wf) (hp8 : p.length ≤ 8) (hR : mRow G 1 0 L) (hu : gS G 0 29 = nI p.length) (hP : ∀ i L, p[i]? = some L → mRow G 14 (76 * i) L) :
    Ok (f_X11_notes G) (fun G' => gOff noZ G G' ∧ gS G' 0 29 = nI (pushP p L).length ∧ ∀ i L', (pushP p L)[i]? = some L' → mRow G' 14 (76 * i) L') := by
  unfold f_X11_notes
  refine Ok.bind (Q := fun G1 => gOff noZ G G1 ∧ ∃ q, q.length ≤ 7 ∧ (q ++ [L]) = pushP p L ∧ (∀ L ∈ q, L.Wf) ∧ gS G1 0 29 = nI q.length ∧ ∀ i L, q[i]? = some L → mRow G1 14 (76 * i) L) ?_ (fun G1 h1 => ?_)
  · by_cases h8 : p.length = 8
    · rw [hu, h8, if_pos (show nI 8 = 8 from rfl)]
      refine Ok.bind (Q := fun G1 => gOff (fun k _ => decide (k = 14)) G G1 ∧ ∀ j, j < 532 → gS G1 14 j = gS G 14 (j + 76)) ?_ (fun G1 h1 => ?_)
      · refine Ok.up (fun i s => s.2 = nI (76 + i) ∧ gOff (fun k _ => decide (k = 14)) G s.1 ∧ (∀ j, j < i → gS s.1 14 j = gS G 14 (j + 76)) ∧ ∀ j, i ≤ j → gS s.1 14 j = gS G 14 j) 532 (by decide) ?_ ?_ ⟨rfl, gOff.rf, fun j hj => by omega, fun j _ => rfl⟩
        · rintro i ⟨G1, x⟩ hi ⟨hx, hO, hc, hr⟩
          simp only at hx hO hc hr
          subst hx
          unfold f_X11_notes_b12
          have e1 : nI (76 + i) - nI 76 = nI i := by rw [pk_sub (by omega)]; apply nI_inj; omega
          simp (disch := omega) only [nLit, neg_nI, nI_add, pk_mul, nI_sub1, nI_clamp, gIn_t, gck_t, gLet_e, nI_leI, nI_ltJ, nI_eq, nI_nM_eq, nM_nI_eq, nM_eq, nM_nI_le, nI_nM_le, nM_nI_lt, nI_nM_lt, at_nI, gS_at, gS_ne', obind_some, iteT, iteF, ite_p, ite_n, e1]
          refine ⟨_, rfl, rfl, hO.S1 (by simp), fun j hj => ?_, fun j hj => ?_⟩
          · simp only
            by_cases e : j = i
            · subst e; rw [gS_at, hr _ (by omega), Nat.add_comm]
            · rw [gS_ne (by omega)]; exact hc j (by omega)
          · simp only
            rw [gS_ne (by omega)]; exact hr j (by omega)
        · rintro ⟨G1, x⟩ ⟨hx, hO, hc, hr⟩
          simp only at hx hO hc hr
          subst hx
          unfold f_X11_notes_b12
          simp (disch := omega) only [nLit, neg_nI, nI_add, pk_mul, nI_sub1, nI_clamp, gIn_t, gck_t, gLet_e, nI_leI, nI_ltJ, nI_eq, nI_nM_eq, nM_nI_eq, nM_eq, nM_nI_le, nI_nM_le, nM_nI_lt, nI_nM_lt, at_nI, gS_at, gS_ne', obind_some, iteT, iteF, ite_p, ite_n]
          exact ⟨_, rfl, hO, hc⟩
      · obtain ⟨hO, hc⟩ := h1
        simp only [gLet]
        refine ⟨_, rfl, ?_, p.tail, by simp [h8], ?_, fun L hl => hp L (List.mem_of_mem_tail hl), ?_, ?_⟩
        · exact (hO.w (fun k j h => by simp [noZ] at h ⊢; omega)).S1 rfl
        · unfold pushP; rw [if_pos h8]
        · rw [gS_at, List.length_tail, h8]; rfl
        · intro i L' hi
          have hi7 : i < 7 := by have := (List.getElem?_eq_some_iff.mp hi).1; simp [h8] at this; omega
          rw [List.getElem?_tail] at hi
          have hm := hP (i + 1) L' hi
          refine mRow.cp (hp L' (List.mem_of_getElem? hi)) hm (fun j hj => ?_)
          rw [gS_ne (by omega), hc _ (by omega)]
          congr 1; omega
    · rw [hu, if_neg (show ¬ nI p.length = 8 from fun z => h8 ((nI_eq (b := 8) (by omega) (by decide)).mp z))]
      exact ⟨_, rfl, gOff.rf, p, by omega, by unfold pushP; rw [if_neg h8], hp, hu, hP⟩
  · obtain ⟨hO, q, hq7, hqe, hqW, hqu, hqP⟩ := h1
    have hR1 : mRow G1 1 0 L := hR.off hO (fun j => rfl)
    refine Ok.bind (cpy_ok (N := 76) (dst := 14) (sd := 76 * q.length) (src := 1) (ss := 0) (by decide) (by decide) ?_ ?_) (fun G2 h2 => ?_)
    · intro G2 i hO2 hi
      have e29 : gS G2 0 29 = nI q.length := by rw [(hO2 0 29 rfl).1]; exact hqu
      unfold f_X11_notes_b48
      simp (disch := omega) only [nLit, neg_nI, nI_add, pk_mul, nI_sub1, nI_clamp, gIn_t, gck_t, gLet_e, nI_leI, nI_ltJ, nI_eq, nI_nM_eq, nM_nI_eq, nM_eq, nM_nI_le, nI_nM_le, nM_nI_lt, nI_nM_lt, at_nI, gS_at, gS_ne', obind_some, iteT, iteF, ite_p, ite_n, e29, Nat.zero_add]
    · intro G2 hO2
      unfold f_X11_notes_b48
      simp (disch := omega) only [nLit, neg_nI, nI_add, pk_mul, nI_sub1, nI_clamp, gIn_t, gck_t, gLet_e, nI_leI, nI_ltJ, nI_eq, nI_nM_eq, nM_nI_eq, nM_eq, nM_nI_le, nI_nM_le, nM_nI_lt, nI_nM_lt, at_nI, gS_at, gS_ne', obind_some, iteT, iteF, ite_p, ite_n]
    · obtain ⟨hO2, hc⟩ := h2
      simp only [gLet]
      have e29 : gS G2 0 29 = nI q.length := by rw [(hO2 0 29 (by simp)).1]; exact hqu
      refine ⟨_, rfl, ?_, ?_, ?_⟩
      · exact (hO.tr (hO2.w (fun k j h => by simp [noZ] at h ⊢; omega))).S1 rfl
      · rw [gS_at, e29, ← hqe, List.length_append, List.length_singleton, nI_1]
      · intro i L' hi
        rw [← hqe] at hi
        by_cases e : i = q.length
        · subst e
          rw [List.getElem?_append_right (Nat.le_refl _), Nat.sub_self] at hi
          cases hi
          refine mRow.cp hL hR1 (fun j hj => ?_)
          rw [gS_ne (by omega), hc j hj]
        · have hil : i < q.length := by have := (List.getElem?_eq_some_iff.mp hi).1; simp at this; omega
          rw [List.getElem?_append_left hil] at hi
          refine mRow.off' (Z := fun k j => decide ((k = 14 ∧ 76 * q.length ≤ j) ∨ (k = 0 ∧ j = 29))) (hqW L' (List.mem_of_getElem? hi)) (hqP i L' hi) ?_ ?_
          · exact (hO2.w (fun k j h => by simp at h ⊢; omega)).S1 (by simp)
          · intro j h1 h2; simp; omega
/-- the state with now changed, what was there noted -/
theorem mSt.note {S : St} {G : gP} (hW : S.Wf) (h : mSt S G) : Ok (f_X11_notes G) (fun G' => gOff noZ G G' ∧ mSt (St.of (S.now) (pushP S.past S.now) (S.kept) (S.tape) (S.sh)) G') := by
  refine (notes_ok hW.now hW.past hW.p8 h.now h.un h.past).imp ?_
  rintro G' ⟨hO, hu, hP⟩
  refine ⟨hO, ⟨h.now.off hO (fun _ => rfl), hu, hP, ?_, ?_, ?_, ?_⟩⟩
  · have hk := h.kept
    show match S.kept with | none => _ | some (L, p) => _
    cases hS : S.kept with
    | none => rw [hS] at hk; simp only at hk ⊢; rw [(hO 0 32 rfl).1]; exact hk
    | some q =>
      obtain ⟨L, p⟩ := q
      rw [hS] at hk
      exact ⟨hk.1.off hO (fun _ => rfl), by rw [(hO 0 32 rfl).1]; exact hk.2.1, fun i L hi => (hk.2.2 i L hi).off hO (fun _ => rfl)⟩
  · rw [(hO 0 23 rfl).1]; exact h.tp
  · intro j v hj; rw [(hO 11 _ rfl).1]; exact h.tape j v hj
  · intro s hs
    have := h.sh s hs
    show match S.sh s with | none => _ | some (k, l) => _
    cases hS : S.sh s with
    | none => rw [hS] at this; simp only at this ⊢; rw [(hO 17 s rfl).1]; exact this
    | some q =>
      obtain ⟨k, l⟩ := q
      rw [hS] at this
      exact ⟨by rw [(hO 17 s rfl).1]; exact this.1, by rw [(hO 18 s rfl).1]; exact this.2.1, fun i v hi => by rw [(hO 19 _ rfl).2.1]; exact this.2.2 i v hi⟩
/-- nothing of what is kept but now has changed -/
theorem mSt.now' {Z : Nat → Nat → Bool} {S : St} {G G' : gP} {L : Lt} (h : mSt S G) (hO : gOff Z G G') (hz : ∀ k j, (k = 0 ∧ (j = 23 ∨ j = 29 ∨ j = 32)) ∨ k = 11 ∨ (14 ≤ k ∧ k ≤ 19) → Z k j = false) (hn : mRow G' 1 0 L) : mSt (St.of (L) (S.past) (S.kept) (S.tape) (S.sh)) G' := by
  refine ⟨hn, ?_, fun i L hi => (h.past i L hi).off hO (fun _ => hz _ _ (by omega)), ?_, ?_, ?_, ?_⟩
  · rw [(hO 0 29 (hz _ _ (by omega))).1]; exact h.un
  · have hk := h.kept
    show match S.kept with | none => _ | some (L, p) => _
    cases hS : S.kept with
    | none => rw [hS] at hk; simp only at hk ⊢; rw [(hO 0 32 (hz _ _ (by omega))).1]; exact hk
    | some q =>
      obtain ⟨L, p⟩ := q
      rw [hS] at hk
      exact ⟨hk.1.off hO (fun _ => hz _ _ (by omega)), by rw [(hO 0 32 (hz _ _ (by omega))).1]; exact hk.2.1, fun i L hi => (hk.2.2 i L hi).off hO (fun _ => hz _ _ (by omega))⟩
  · rw [(hO 0 23 (hz _ _ (by omega))).1]; exact h.tp
  · intro j v hj; rw [(hO 11 _ (hz _ _ (by omega))).1]; exact h.tape j v hj
  · intro s hs
    have := h.sh s hs
    show match S.sh s with | none => _ | some (k, l) => _
    cases hS : S.sh s with
    | none => rw [hS] at this; simp only at this ⊢; rw [(hO 17 s (hz _ _ (by omega))).1]; exact this
    | some q =>
      obtain ⟨k, l⟩ := q
      rw [hS] at this
      exact ⟨by rw [(hO 17 s (hz _ _ (by omega))).1]; exact this.1, by rw [(hO 18 s (hz _ _ (by omega))).1]; exact this.2.1, fun i v hi => by rw [(hO 19 _ (hz _ _ (by omega))).2.1]; exact this.2.2 i v hi⟩
theorem mSt.q {S : St} {G G' : gP} (h : mSt S G) (hO : gOff qZ G G') : mSt S G' := h.now' hO (fun k j hk => by simp [qZ]; omega) (h.now.q hO)
end
section
/-! what is done, as it is meant; the Model does it -/
def Lt.put (L : Lt) (s m : Nat) (w c : Nat → Nat) : Lt := (Lt.of (L.n) (L.kind) (L.slack) (L.draw) (fun k => if k = s then m else L.m k) (fun k => if k = s then w else L.w k) (fun k => if k = s then c else L.c k))
def Lt.add (L : Lt) (s w c : Nat) : Lt := L.put s (L.m s + 1) (setp (L.w s) (L.m s) w) (setp (L.c s) (L.m s) c)
def Lt.more (L : Lt) (w c : Nat) : Lt := (Lt.of (L.n + 1) ((L.put L.n 1 (fun _ => w) (fun _ => c)).kind) ((L.put L.n 1 (fun _ => w) (fun _ => c)).slack) ((L.put L.n 1 (fun _ => w) (fun _ => c)).draw) ((L.put L.n 1 (fun _ => w) (fun _ => c)).m) ((L.put L.n 1 (fun _ => w) (fun _ => c)).w) ((L.put L.n 1 (fun _ => w) (fun _ => c)).c))
def Lt.del (L : Lt) (s : Nat) : Lt := (Lt.of (L.n - 1) (L.kind) (L.slack) (L.draw) (fun k => if k < s then L.m k else L.m (k + 1)) (fun k => if k < s then L.w k else L.w (k + 1)) (fun k => if k < s then L.c k else L.c (k + 1)))
def fnd (f : Nat → Nat) (w : Nat) : Nat → Option Nat
  | 0 => none
  | j + 1 => match fnd f w j with
    | some i => some i
    | none => if f j = w then some j else none
theorem fnd_some {f : Nat → Nat} {w : Nat} : ∀ n i, fnd f w n = some i → i < n ∧ f i = w := by
  intro n
  induction n with
  | zero => intro i h; cases h
  | succ n ih =>
    intro i h
    unfold fnd at h
    cases hf : fnd f w n with
    | some j => rw [hf] at h; cases h; have := ih _ hf; exact ⟨by omega, this.2⟩
    | none =>
      rw [hf] at h
      simp only at h
      split at h
      · cases h; exact ⟨by omega, by assumption⟩
      · cases h
theorem fnd_none {f : Nat → Nat} {w : Nat} : ∀ n, fnd f w n = none → ∀ i, i < n → f i ≠ w := by
  intro n
  induction n with
  | zero => intro _ i h; omega
  | succ n ih =>
    intro h i hi
    unfold fnd at h
    cases hf : fnd f w n with
    | some j => rw [hf] at h; cases h
    | none =>
      rw [hf] at h
      simp only at h
      split at h
      · cases h
      · by_cases e : i = n
        · subst e; assumption
        · exact ih hf i (by omega)
/-- the next draw; so that nobody unfolds it -/
theorem nxD_ex (d : Nat) : ∃ a, a = (d * 1103515245 + 12345) % 2147483648 := ⟨_, rfl⟩
noncomputable def nxD (d : Nat) : Nat := Classical.choose (nxD_ex d)
theorem nxD_def (d : Nat) : nxD d = (d * 1103515245 + 12345) % 2147483648 := Classical.choose_spec (nxD_ex d)
theorem nxD_lt (d : Nat) : nxD d < 2 ^ 31 := by
  rw [nxD_def]
  have := Nat.mod_lt (d * 1103515245 + 12345) (show 0 < 2147483648 by omega)
  omega
def Lt.dr1 (L : Lt) (d x : Nat) : Lt :=
  if L.n = 0 then (Lt.of (L.n) (L.kind) (L.slack) (d) (L.m) (L.w) (L.c)) else if L.m (x % L.n) < 4 ∧ fnd (L.w (x % L.n)) (x / 8 % 32) (L.m (x % L.n)) = none then ((Lt.of (L.n) (L.kind) (L.slack) (d) (L.m) (L.w) (L.c)) : Lt).add (x % L.n) (x / 8 % 32) (x / 256 % 10) else (Lt.of (L.n) (L.kind) (L.slack) (d) (L.m) (L.w) (L.c))
noncomputable def Lt.drawn (L : Lt) : Lt := L.dr1 (nxD L.draw) (nxD L.draw / 65536)
def St.up (S : St) (L : Lt) : St := (St.of (L) (pushP S.past S.now) (S.kept) (S.tape) (S.sh))
noncomputable def St.storm (S : St) : Nat → St
  | 0 => S
  | n + 1 => (S.storm n).up (S.storm n).now.drawn
def sHear (S : St) (a c : Int32) : St × Int32 := match rg a 0 32 with
  | none => (S, -1)
  | some w => match rg c 0 10 with
    | none => (S, -1)
    | some c => if S.now.n = 8 then (S, -3) else (S.up (S.now.more w c), nI (S.now.n + 1))
def sAlso (S : St) (a w c : Int32) : St × Int32 := match rg a 0 S.now.n with
  | none => (S, -1)
  | some s => match rg w 0 32 with
    | none => (S, -1)
    | some w => match rg c 0 10 with
      | none => (S, -1)
      | some c => match fnd (S.now.w s) w (S.now.m s) with
        | some _ => (S, -2)
        | none => if S.now.m s = 4 then (S, -3) else (S.up (S.now.add s w c), nI (S.now.m s + 1))
def sLose (S : St) (a : Int32) : St × Int32 := match rg a 0 S.now.n with
  | none => (S, -1)
  | some s => (S.up (S.now.del s), nI (S.now.n - 1))
def sSettle (S : St) (a w : Int32) : St × Int32 := match rg a 0 S.now.n with
  | none => (S, -1)
  | some s => match rg w 0 32 with
    | none => (S, -1)
    | some w => match fnd (S.now.w s) w (S.now.m s) with
      | none => (S, -2)
      | some j => if S.now.m s = 1 then (S, -2) else (S.up (S.now.put s 1 (fun _ => S.now.w s j) (fun _ => S.now.c s j)), nI (S.now.m s - 1))
def sCheck (S : St) (a : Int32) : St × Int32 := match rg a 0 5 with
  | none => (S, -1)
  | some k => if S.now.kind = k then (S, -2) else (S.up (Lt.of (S.now.n) (k) (S.now.slack) (S.now.draw) (S.now.m) (S.now.w) (S.now.c)), nI S.now.kind)
def sSlack (S : St) (a : Int32) : St × Int32 := match rg a 0 21 with
  | none => (S, -1)
  | some k => if S.now.slack = k then (S, -2) else (S.up (Lt.of (S.now.n) (S.now.kind) (k) (S.now.draw) (S.now.m) (S.now.w) (S.now.c)), nI S.now.slack)
noncomputable def sStorm (S : St) (a : Int32) : St × Int32 := match rg a 1 41 with
  | none => (S, -1)
  | some n => (S.storm n, nI (su (S.storm n).now.m (S.storm n).now.n))
def sUndo (S : St) : St × Int32 := match S.past.getLast? with
  | none => (S, -4)
  | some L => ((St.of (L) (S.past.dropLast) (S.kept) (S.tape) (S.sh)), nI (S.past.length - 1))
def sSeed (S : St) (a : Int32) : St × Int32 := if 0 ≤ a then ((St.of ((Lt.of (S.now.n) (S.now.kind) (S.now.slack) (a.toInt.toNat) (S.now.m) (S.now.w) (S.now.c))) (S.past) (S.kept) (S.tape) (S.sh)), nI S.now.draw) else (S, -1)
def sImage (S : St) : St × Int32 := ((St.of (S.now) (S.past) (some (S.now, S.past)) (S.tape) (S.sh)), 1)
def sRestore (S : St) : St × Int32 := match S.kept with
  | none => (S, -4)
  | some (L, p) => ((St.of (L) (p) (S.kept) (S.tape) (S.sh)), 1)
/-- a slot in a row -/
def mSl (G : gP) (i m : Nat) (w c : Nat → Nat) : Prop := gS G 1 (4 + 9 * i) = nI m ∧ ∀ j, j < m → gS G 1 (5 + 9 * i + j) = nI (w j) ∧ gS G 1 (9 + 9 * i + j) = nI (c j)
theorem mRow.sl {G : gP} {L : Lt} (h : mRow G 1 0 L) {i : Nat} (hi : i < L.n) : mSl G i (L.m i) (L.w i) (L.c i) := by
  have := h.2.2.2.2 i hi
  simp only [Nat.zero_add] at this
  exact this
theorem mRow.of {G : gP} {L : Lt} (h0 : gS G 1 0 = nI L.n) (h1 : gS G 1 1 = nI L.kind) (h2 : gS G 1 2 = nI L.slack) (h3 : gS G 1 3 = nI L.draw) (hs : ∀ i, i < L.n → mSl G i (L.m i) (L.w i) (L.c i)) : mRow G 1 0 L :=
  ⟨h0, h1, h2, h3, fun i hi => by have := hs i hi; simp only [Nat.zero_add]; exact this⟩
theorem mSl.off {Z : Nat → Nat → Bool} {G G' : gP} {i m : Nat} {w c : Nat → Nat} (h : mSl G i m w c) (hm : m ≤ 4) (hO : gOff Z G G') (hz : ∀ j, 4 + 9 * i ≤ j → j < 13 + 9 * i → Z 1 j = false) : mSl G' i m w c := by
  refine ⟨by rw [(hO 1 _ (hz _ (by omega) (by omega))).1]; exact h.1, fun j hj => ⟨?_, ?_⟩⟩
  · rw [(hO 1 _ (hz _ (by omega) (by omega))).1]; exact (h.2 j hj).1
  · rw [(hO 1 _ (hz _ (by omega) (by omega))).1]; exact (h.2 j hj).2
/-- a row with one slot changed -/
theorem mRow.put {G G' : gP} {L : Lt} (hL : L.Wf) (h : mRow G 1 0 L) {s m : Nat} {w c : Nat → Nat} (hO : gOff (fun k j => decide (k = 1 ∧ 4 + 9 * s ≤ j ∧ j < 13 + 9 * s)) G G') (hs : mSl G' s m w c) : mRow G' 1 0 (L.put s m w c) := by
  refine mRow.of ?_ ?_ ?_ ?_ (fun i hi => ?_)
  · rw [(hO 1 0 (by simp)).1]; exact h.1
  · rw [(hO 1 1 (by simp; omega)).1]; exact h.2.1
  · rw [(hO 1 2 (by simp; omega)).1]; exact h.2.2.1
  · rw [(hO 1 3 (by simp; omega)).1]; exact h.2.2.2.1
  · unfold Lt.put
    simp only [Lt.mk_n, Lt.mk_kind, Lt.mk_slack, Lt.mk_draw, Lt.mk_m, Lt.mk_w, Lt.mk_c, St.mk_now, St.mk_past, St.mk_kept, St.mk_tape, St.mk_sh]
    by_cases e : i = s
    · subst e; simp only [if_true]; exact hs
    · simp only [e, if_false]
      have hi' : i < L.n := hi
      exact (h.sl hi').off (hL.m1 i hi').2 hO (fun j h1 h2 => by simp; omega)
/-- what an act leaves -/
def mA (X : St × Int32) (q : gP × Int32) : Prop := mSt X.1 q.1 ∧ q.2 = X.2
def nowZ (k _ : Nat) : Bool := decide (k = 1)
theorem nowZ_k {k j : Nat} (h : (k = 0 ∧ (j = 23 ∨ j = 29 ∨ j = 32)) ∨ k = 11 ∨ (14 ≤ k ∧ k ≤ 19)) : nowZ k j = false := by simp [nowZ]; omega
theorem mSt.up {S : St} {G G' : gP} {L : Lt} (h : mSt (St.of (S.now) (pushP S.past S.now) (S.kept) (S.tape) (S.sh)) G) (hO : gOff nowZ G G') (hn : mRow G' 1 0 L) : mSt (S.up L) G' :=
  h.now' (L := L) hO (fun _ _ hk => nowZ_k hk) hn
theorem hears_ok {G : gP} {L : Lt} (hL : L.Wf) (hn : L.n < 8) (h : mRow G 1 0 L) {w c : Nat} : Ok (f_X11_hears G (nI w) (nI c)) (fun G' => gOff nowZ G G' ∧ mRow G' 1 0 (L.more w c) ∧ gS G' 1 0 = nI (L.n + 1)) := by
  unfold f_X11_hears
  simp (disch := omega) only [nLit, neg_nI, nI_add, pk_mul, nI_sub1, nI_clamp, gIn_t, gck_t, gLet_e, nI_leI, nI_ltJ, nI_eq, nI_nM_eq, nM_nI_eq, nM_eq, nM_nI_le, nI_nM_le, nM_nI_lt, nI_nM_lt, at_nI, gS_at, gS_ne', obind_some, iteT, iteF, ite_p, ite_n, h.1]
  refine ⟨_, rfl, (((gOff.rf.S1 rfl).S1 rfl).S1 rfl).S1 rfl, mRow.of ?_ ?_ ?_ ?_ (fun i hi => ?_), ?_⟩
  · simp (disch := omega) only [nLit, neg_nI, nI_add, pk_mul, nI_sub1, nI_clamp, gIn_t, gck_t, gLet_e, nI_leI, nI_ltJ, nI_eq, nI_nM_eq, nM_nI_eq, nM_eq, nM_nI_le, nI_nM_le, nM_nI_lt, nI_nM_lt, at_nI, gS_at, gS_ne', obind_some, iteT, iteF, ite_p, ite_n]; rfl
  · simp (disch := omega) only [nLit, neg_nI, nI_add, pk_mul, nI_sub1, nI_clamp, gIn_t, gck_t, gLet_e, nI_leI, nI_ltJ, nI_eq, nI_nM_eq, nM_nI_eq, nM_eq, nM_nI_le, nI_nM_le, nM_nI_lt, nI_nM_lt, at_nI, gS_at, gS_ne', obind_some, iteT, iteF, ite_p, ite_n]; exact h.2.1
  · simp (disch := omega) only [nLit, neg_nI, nI_add, pk_mul, nI_sub1, nI_clamp, gIn_t, gck_t, gLet_e, nI_leI, nI_ltJ, nI_eq, nI_nM_eq, nM_nI_eq, nM_eq, nM_nI_le, nI_nM_le, nM_nI_lt, nI_nM_lt, at_nI, gS_at, gS_ne', obind_some, iteT, iteF, ite_p, ite_n]; exact h.2.2.1
  · simp (disch := omega) only [nLit, neg_nI, nI_add, pk_mul, nI_sub1, nI_clamp, gIn_t, gck_t, gLet_e, nI_leI, nI_ltJ, nI_eq, nI_nM_eq, nM_nI_eq, nM_eq, nM_nI_le, nI_nM_le, nM_nI_lt, nI_nM_lt, at_nI, gS_at, gS_ne', obind_some, iteT, iteF, ite_p, ite_n]; exact h.2.2.2.1
  · unfold Lt.more Lt.put
    simp only [Lt.mk_n, Lt.mk_kind, Lt.mk_slack, Lt.mk_draw, Lt.mk_m, Lt.mk_w, Lt.mk_c, St.mk_now, St.mk_past, St.mk_kept, St.mk_tape, St.mk_sh]
    have hi' : i < L.n + 1 := hi
    by_cases e : i = L.n
    · subst e
      simp only [if_true]
      refine ⟨by simp (disch := omega) only [nLit, neg_nI, nI_add, pk_mul, nI_sub1, nI_clamp, gIn_t, gck_t, gLet_e, nI_leI, nI_ltJ, nI_eq, nI_nM_eq, nM_nI_eq, nM_eq, nM_nI_le, nI_nM_le, nM_nI_lt, nI_nM_lt, at_nI, gS_at, gS_ne', obind_some, iteT, iteF, ite_p, ite_n], fun j hj => ?_⟩
      have : j = 0 := by omega
      subst this
      constructor
      · rw [show 5 + 9 * L.n + 0 = 4 + 9 * L.n + 1 by omega]; simp (disch := omega) only [nLit, neg_nI, nI_add, pk_mul, nI_sub1, nI_clamp, gIn_t, gck_t, gLet_e, nI_leI, nI_ltJ, nI_eq, nI_nM_eq, nM_nI_eq, nM_eq, nM_nI_le, nI_nM_le, nM_nI_lt, nI_nM_lt, at_nI, gS_at, gS_ne', obind_some, iteT, iteF, ite_p, ite_n]
      · rw [show 9 + 9 * L.n + 0 = 4 + 9 * L.n + 5 by omega]; simp (disch := omega) only [nLit, neg_nI, nI_add, pk_mul, nI_sub1, nI_clamp, gIn_t, gck_t, gLet_e, nI_leI, nI_ltJ, nI_eq, nI_nM_eq, nM_nI_eq, nM_eq, nM_nI_le, nI_nM_le, nM_nI_lt, nI_nM_lt, at_nI, gS_at, gS_ne', obind_some, iteT, iteF, ite_p, ite_n]
    · simp only [e, if_false]
      refine (h.sl (i := i) (by omega)).off (hL.m1 i (by omega)).2 (Z := fun k j => decide (k = 1 ∧ (j = 0 ∨ 4 + 9 * L.n ≤ j))) ((((gOff.rf.S1 ?_).S1 ?_).S1 ?_).S1 ?_) (fun j h1 h2 => ?_)
      · simp
      · simp
      · simp
      · simp
      · simp; omega
  · simp (disch := omega) only [nLit, neg_nI, nI_add, pk_mul, nI_sub1, nI_clamp, gIn_t, gck_t, gLet_e, nI_leI, nI_ltJ, nI_eq, nI_nM_eq, nM_nI_eq, nM_eq, nM_nI_le, nI_nM_le, nM_nI_lt, nI_nM_lt, at_nI, gS_at, gS_ne', obind_some, iteT, iteF, ite_p, ite_n]
theorem hear_ok {S : St} {G : gP} (hW : S.Wf) (h : mSt S G) (a c : Int32) : Ok (f_X11_hear G a c) (mA (sHear S a c)) := by
  unfold f_X11_hear sHear f_X11_isWord
  rw [in_rg a (lo := 0) (hi := 32) rfl rfl, in_rg c (lo := 0) (hi := 10) rfl rfl]
  cases ha : rg a 0 32 with
  | none => exact ⟨_, rfl, h, rfl⟩
  | some w =>
    obtain ⟨-, hw, rfl⟩ := rg_some ha
    simp only [Option.isSome_some, if_true]
    rw [if_neg (by decide)]
    cases hc : rg c 0 10 with
    | none => exact ⟨_, rfl, h, rfl⟩
    | some cn =>
      obtain ⟨-, hcn, rfl⟩ := rg_some hc
      simp only [Option.isSome_some, if_true]
      rw [if_neg (by decide)]
      have h8 := hW.now.n8
      simp (disch := omega) only [nLit, neg_nI, nI_add, pk_mul, nI_sub1, nI_clamp, gIn_t, gck_t, gLet_e, nI_leI, nI_ltJ, nI_eq, nI_nM_eq, nM_nI_eq, nM_eq, nM_nI_le, nI_nM_le, nM_nI_lt, nI_nM_lt, at_nI, gS_at, gS_ne', obind_some, iteT, iteF, ite_p, ite_n, h.now.1]
      by_cases hn : S.now.n = 8
      · rw [if_pos hn, if_pos hn]; exact ⟨_, rfl, h, rfl⟩
      · rw [if_neg hn, if_neg hn]
        refine Ok.bind (h.note hW) (fun G1 h1 => ?_)
        refine Ok.bind (hears_ok hW.now (by omega) h1.2.now) (fun G2 h2 => ?_)
        exact ⟨_, rfl, h1.2.up h2.1 h2.2.1, h2.2.2⟩
theorem placeOf_ok {G : gP} {L : Lt} (hL : L.Wf) (h : mRow G 1 0 L) {s w : Nat} (hs : s < L.n) (hw : w < 2 ^ 31) : Ok (f_X11_placeOf G (nI s) (nI w)) (fun r => r = rI (fnd (L.w s) w (L.m s))) := by
  unfold f_X11_placeOf
  have h8 := hL.n8
  have hm := hL.m1 s hs
  refine Ok.bind (Q := fun r => r = rI (fnd (L.w s) w (L.m s))) ?_ (fun r hr => ⟨_, rfl, hr⟩)
  refine Ok.up (fun j r => r = (rI (fnd (L.w s) w j), nI j)) (L.m s) (by omega) ?_ ?_ rfl
  · rintro j r hj rfl
    unfold f_X11_placeOf_b6
    have e1 := ((h.sl hs).2 j hj).1
    rw [show 5 + 9 * s + j = 4 + 9 * s + 1 + j by omega] at e1
    have hwj := hL.w32 s j hs hj
    simp (disch := omega) only [nLit, neg_nI, nI_add, pk_mul, nI_sub1, nI_clamp, gIn_t, gck_t, gLet_e, nI_leI, nI_ltJ, nI_eq, nI_nM_eq, nM_nI_eq, nM_eq, nM_nI_le, nI_nM_le, nM_nI_lt, nI_nM_lt, at_nI, gS_at, gS_ne', obind_some, iteT, iteF, ite_p, ite_n, (h.sl hs).1, e1]
    by_cases hc : L.w s j = w
    · rw [if_pos hc]
      refine ⟨_, rfl, ?_⟩
      simp only [fnd]
      cases hf : fnd (L.w s) w j with
      | none => simp only; rw [if_pos hc]; rfl
      | some i =>
        exfalso
        have := fnd_some _ _ hf
        exact hL.ds s i j hs this.1 hj (this.2.trans hc.symm)
    · rw [if_neg hc]
      refine ⟨_, rfl, ?_⟩
      simp only [fnd]
      cases hf : fnd (L.w s) w j with
      | none => simp only; rw [if_neg hc]
      | some i => rfl
  · rintro r rfl
    unfold f_X11_placeOf_b6
    simp (disch := omega) only [nLit, neg_nI, nI_add, pk_mul, nI_sub1, nI_clamp, gIn_t, gck_t, gLet_e, nI_leI, nI_ltJ, nI_eq, nI_nM_eq, nM_nI_eq, nM_eq, nM_nI_le, nI_nM_le, nM_nI_lt, nI_nM_lt, at_nI, gS_at, gS_ne', obind_some, iteT, iteF, ite_p, ite_n, (h.sl hs).1]
    exact ⟨_, rfl, rfl⟩
theorem comes_ok {G : gP} {s m : Nat} {w0 c0 : Nat → Nat} (hs8 : s < 8) (h : mSl G s m w0 c0) (hm : m < 4) {w c : Nat} : Ok (f_X11_comes G (nI s) (nI w) (nI c)) (fun G' => gOff (fun k j => decide (k = 1 ∧ 4 + 9 * s ≤ j ∧ j < 13 + 9 * s)) G G' ∧ mSl G' s (m + 1) (setp w0 m w) (setp c0 m c)) := by
  unfold f_X11_comes
  simp (disch := omega) only [nLit, neg_nI, nI_add, pk_mul, nI_sub1, nI_clamp, gIn_t, gck_t, gLet_e, nI_leI, nI_ltJ, nI_eq, nI_nM_eq, nM_nI_eq, nM_eq, nM_nI_le, nI_nM_le, nM_nI_lt, nI_nM_lt, at_nI, gS_at, gS_ne', obind_some, iteT, iteF, ite_p, ite_n, h.1]
  refine ⟨_, rfl, ((gOff.rf.S1 ?_).S1 ?_).S1 ?_, by simp (disch := omega) only [nLit, neg_nI, nI_add, pk_mul, nI_sub1, nI_clamp, gIn_t, gck_t, gLet_e, nI_leI, nI_ltJ, nI_eq, nI_nM_eq, nM_nI_eq, nM_eq, nM_nI_le, nI_nM_le, nM_nI_lt, nI_nM_lt, at_nI, gS_at, gS_ne', obind_some, iteT, iteF, ite_p, ite_n], fun j hj => ?_⟩
  · simp; omega
  · simp; omega
  · simp
  · unfold setp
    by_cases e : j = m
    · subst e
      simp only [if_true]
      constructor
      · rw [show 5 + 9 * s + j = 4 + 9 * s + 1 + j by omega]; simp (disch := omega) only [nLit, neg_nI, nI_add, pk_mul, nI_sub1, nI_clamp, gIn_t, gck_t, gLet_e, nI_leI, nI_ltJ, nI_eq, nI_nM_eq, nM_nI_eq, nM_eq, nM_nI_le, nI_nM_le, nM_nI_lt, nI_nM_lt, at_nI, gS_at, gS_ne', obind_some, iteT, iteF, ite_p, ite_n]
      · rw [show 9 + 9 * s + j = 4 + 9 * s + 5 + j by omega]; simp (disch := omega) only [nLit, neg_nI, nI_add, pk_mul, nI_sub1, nI_clamp, gIn_t, gck_t, gLet_e, nI_leI, nI_ltJ, nI_eq, nI_nM_eq, nM_nI_eq, nM_eq, nM_nI_le, nI_nM_le, nM_nI_lt, nI_nM_lt, at_nI, gS_at, gS_ne', obind_some, iteT, iteF, ite_p, ite_n]
    · simp only [e, if_false]
      have := h.2 j (by omega)
      constructor
      · simp (disch := omega) only [nLit, neg_nI, nI_add, pk_mul, nI_sub1, nI_clamp, gIn_t, gck_t, gLet_e, nI_leI, nI_ltJ, nI_eq, nI_nM_eq, nM_nI_eq, nM_eq, nM_nI_le, nI_nM_le, nM_nI_lt, nI_nM_lt, at_nI, gS_at, gS_ne', obind_some, iteT, iteF, ite_p, ite_n]; exact this.1
      · simp (disch := omega) only [nLit, neg_nI, nI_add, pk_mul, nI_sub1, nI_clamp, gIn_t, gck_t, gLet_e, nI_leI, nI_ltJ, nI_eq, nI_nM_eq, nM_nI_eq, nM_eq, nM_nI_le, nI_nM_le, nM_nI_lt, nI_nM_lt, at_nI, gS_at, gS_ne', obind_some, iteT, iteF, ite_p, ite_n]; exact this.2
theorem also_ok {S : St} {G : gP} (hW : S.Wf) (h : mSt S G) (a w c : Int32) : Ok (f_X11_also G a w c) (mA (sAlso S a w c)) := by
  unfold f_X11_also sAlso f_X11_isWord
  have hL := hW.now
  have h8 := hL.n8
  rw [isSlot_rg h8 h.now.1, in_rg w (lo := 0) (hi := 32) rfl rfl, in_rg c (lo := 0) (hi := 10) rfl rfl]
  cases ha : rg a 0 S.now.n with
  | none => exact ⟨_, rfl, h, rfl⟩
  | some s =>
    obtain ⟨-, hs, rfl⟩ := rg_some ha
    simp only [Option.isSome_some, if_true]
    rw [if_neg (by decide)]
    cases hw : rg w 0 32 with
    | none => exact ⟨_, rfl, h, rfl⟩
    | some wn =>
      obtain ⟨-, hwn, rfl⟩ := rg_some hw
      simp only [Option.isSome_some, if_true]
      rw [if_neg (by decide)]
      cases hc : rg c 0 10 with
      | none => exact ⟨_, rfl, h, rfl⟩
      | some cn =>
        obtain ⟨-, hcn, rfl⟩ := rg_some hc
        simp only [Option.isSome_some, if_true]
        rw [if_neg (by decide)]
        refine Ok.bind (placeOf_ok hL h.now hs (by omega)) (fun r hr => ?_)
        subst hr
        have hm := hL.m1 s hs
        cases hf : fnd (S.now.w s) wn (S.now.m s) with
        | some i =>
          have := fnd_some _ _ hf
          rw [if_neg (rI_ne (by omega))]
          exact ⟨_, rfl, h, rfl⟩
        | none =>
          rw [if_pos rI_none]
          simp (disch := omega) only [nLit, neg_nI, nI_add, pk_mul, nI_sub1, nI_clamp, gIn_t, gck_t, gLet_e, nI_leI, nI_ltJ, nI_eq, nI_nM_eq, nM_nI_eq, nM_eq, nM_nI_le, nI_nM_le, nM_nI_lt, nI_nM_lt, at_nI, gS_at, gS_ne', obind_some, iteT, iteF, ite_p, ite_n, (h.now.sl hs).1]
          by_cases hn : S.now.m s = 4
          · rw [if_pos hn, if_pos hn]; exact ⟨_, rfl, h, rfl⟩
          · rw [if_neg hn, if_neg hn]
            refine Ok.bind (h.note hW) (fun G1 h1 => ?_)
            refine Ok.bind (comes_ok (by omega) (h1.2.now.sl (i := s) hs) (by show S.now.m s < 4; omega)) (fun G2 h2 => ?_)
            exact ⟨_, rfl, h1.2.up (h2.1.w (fun k j hz => by simp [nowZ] at hz ⊢; omega)) (mRow.put hL h1.2.now h2.1 h2.2), h2.2.1⟩
theorem check_ok {S : St} {G : gP} (hW : S.Wf) (h : mSt S G) (a : Int32) : Ok (f_X11_check G a) (mA (sCheck S a)) := by
  unfold f_X11_check sCheck
  have hL := hW.now
  rw [in_rg a (lo := 0) (hi := 5) rfl rfl]
  cases ha : rg a 0 5 with
  | none => exact ⟨_, rfl, h, rfl⟩
  | some k =>
    obtain ⟨-, hk, rfl⟩ := rg_some ha
    simp only [Option.isSome_some, if_true]
    rw [if_neg (by decide)]
    have h5 := hL.k5
    have e1 : gS G 1 1 = nI S.now.kind := h.now.2.1
    by_cases hn : S.now.kind = k
    · simp (disch := omega) only [nLit, neg_nI, nI_add, pk_mul, nI_sub1, nI_clamp, gIn_t, gck_t, gLet_e, nI_leI, nI_ltJ, nI_eq, nI_nM_eq, nM_nI_eq, nM_eq, nM_nI_le, nI_nM_le, nM_nI_lt, nI_nM_lt, at_nI, gS_at, gS_ne', obind_some, iteT, iteF, ite_p, ite_n, e1]; exact ⟨_, rfl, h, rfl⟩
    · simp (disch := omega) only [nLit, neg_nI, nI_add, pk_mul, nI_sub1, nI_clamp, gIn_t, gck_t, gLet_e, nI_leI, nI_ltJ, nI_eq, nI_nM_eq, nM_nI_eq, nM_eq, nM_nI_le, nI_nM_le, nM_nI_lt, nI_nM_lt, at_nI, gS_at, gS_ne', obind_some, iteT, iteF, ite_p, ite_n, e1]
      refine Ok.bind (h.note hW) (fun G1 h1 => ⟨_, rfl, h1.2.up (gOff.rf.S1 rfl) ?_, rfl⟩)
      have hR := h1.2.now
      refine mRow.of ?_ gS_at ?_ ?_ (fun i hi => ?_)
      · simp (disch := omega) only [nLit, neg_nI, nI_add, pk_mul, nI_sub1, nI_clamp, gIn_t, gck_t, gLet_e, nI_leI, nI_ltJ, nI_eq, nI_nM_eq, nM_nI_eq, nM_eq, nM_nI_le, nI_nM_le, nM_nI_lt, nI_nM_lt, at_nI, gS_at, gS_ne', obind_some, iteT, iteF, ite_p, ite_n]; exact hR.1
      · simp (disch := omega) only [nLit, neg_nI, nI_add, pk_mul, nI_sub1, nI_clamp, gIn_t, gck_t, gLet_e, nI_leI, nI_ltJ, nI_eq, nI_nM_eq, nM_nI_eq, nM_eq, nM_nI_le, nI_nM_le, nM_nI_lt, nI_nM_lt, at_nI, gS_at, gS_ne', obind_some, iteT, iteF, ite_p, ite_n]; exact hR.2.2.1
      · simp (disch := omega) only [nLit, neg_nI, nI_add, pk_mul, nI_sub1, nI_clamp, gIn_t, gck_t, gLet_e, nI_leI, nI_ltJ, nI_eq, nI_nM_eq, nM_nI_eq, nM_eq, nM_nI_le, nI_nM_le, nM_nI_lt, nI_nM_lt, at_nI, gS_at, gS_ne', obind_some, iteT, iteF, ite_p, ite_n]; exact hR.2.2.2.1
      · exact (hR.sl (i := i) hi).off (hL.m1 i hi).2 (Z := fun k j => decide (k = 1 ∧ j < 4)) (gOff.rf.S1 (by simp)) (fun j h1 h2 => by simp; omega)
theorem slack_ok {S : St} {G : gP} (hW : S.Wf) (h : mSt S G) (a : Int32) : Ok (f_X11_slack G a) (mA (sSlack S a)) := by
  unfold f_X11_slack sSlack
  have hL := hW.now
  rw [in_rg a (lo := 0) (hi := 21) rfl rfl]
  cases ha : rg a 0 21 with
  | none => exact ⟨_, rfl, h, rfl⟩
  | some k =>
    obtain ⟨-, hk, rfl⟩ := rg_some ha
    simp only [Option.isSome_some, if_true]
    rw [if_neg (by decide)]
    have h5 := hL.s20
    have e1 : gS G 1 2 = nI S.now.slack := h.now.2.2.1
    by_cases hn : S.now.slack = k
    · simp (disch := omega) only [nLit, neg_nI, nI_add, pk_mul, nI_sub1, nI_clamp, gIn_t, gck_t, gLet_e, nI_leI, nI_ltJ, nI_eq, nI_nM_eq, nM_nI_eq, nM_eq, nM_nI_le, nI_nM_le, nM_nI_lt, nI_nM_lt, at_nI, gS_at, gS_ne', obind_some, iteT, iteF, ite_p, ite_n, e1]; exact ⟨_, rfl, h, rfl⟩
    · simp (disch := omega) only [nLit, neg_nI, nI_add, pk_mul, nI_sub1, nI_clamp, gIn_t, gck_t, gLet_e, nI_leI, nI_ltJ, nI_eq, nI_nM_eq, nM_nI_eq, nM_eq, nM_nI_le, nI_nM_le, nM_nI_lt, nI_nM_lt, at_nI, gS_at, gS_ne', obind_some, iteT, iteF, ite_p, ite_n, e1]
      refine Ok.bind (h.note hW) (fun G1 h1 => ⟨_, rfl, h1.2.up (gOff.rf.S1 rfl) ?_, rfl⟩)
      have hR := h1.2.now
      refine mRow.of ?_ ?_ gS_at ?_ (fun i hi => ?_)
      · simp (disch := omega) only [nLit, neg_nI, nI_add, pk_mul, nI_sub1, nI_clamp, gIn_t, gck_t, gLet_e, nI_leI, nI_ltJ, nI_eq, nI_nM_eq, nM_nI_eq, nM_eq, nM_nI_le, nI_nM_le, nM_nI_lt, nI_nM_lt, at_nI, gS_at, gS_ne', obind_some, iteT, iteF, ite_p, ite_n]; exact hR.1
      · simp (disch := omega) only [nLit, neg_nI, nI_add, pk_mul, nI_sub1, nI_clamp, gIn_t, gck_t, gLet_e, nI_leI, nI_ltJ, nI_eq, nI_nM_eq, nM_nI_eq, nM_eq, nM_nI_le, nI_nM_le, nM_nI_lt, nI_nM_lt, at_nI, gS_at, gS_ne', obind_some, iteT, iteF, ite_p, ite_n]; exact hR.2.1
      · simp (disch := omega) only [nLit, neg_nI, nI_add, pk_mul, nI_sub1, nI_clamp, gIn_t, gck_t, gLet_e, nI_leI, nI_ltJ, nI_eq, nI_nM_eq, nM_nI_eq, nM_eq, nM_nI_le, nI_nM_le, nM_nI_lt, nI_nM_lt, at_nI, gS_at, gS_ne', obind_some, iteT, iteF, ite_p, ite_n]; exact hR.2.2.2.1
      · exact (hR.sl (i := i) hi).off (hL.m1 i hi).2 (Z := fun k j => decide (k = 1 ∧ j < 4)) (gOff.rf.S1 (by simp)) (fun j h1 h2 => by simp; omega)
theorem seed_ok {S : St} {G : gP} (hW : S.Wf) (h : mSt S G) (a : Int32) : Ok (f_X11_seed G a) (mA (sSeed S a)) := by
  unfold f_X11_seed sSeed
  have hL := hW.now
  by_cases ha : 0 ≤ a
  · rw [if_pos ha, if_pos ha]
    simp only [gLet]
    have x1 := Int32.le_iff_toInt_le.mp ha
    have x4 : ((0 : Int32)).toInt = 0 := by decide
    have hR := h.now
    refine ⟨_, rfl, h.now' (Z := nowZ) (gOff.rf.S1 rfl) (fun _ _ hk => nowZ_k hk) ?_, hR.2.2.2.1⟩
    refine mRow.of ?_ ?_ ?_ ?_ (fun i hi => ?_)
    · simp (disch := omega) only [nLit, neg_nI, nI_add, pk_mul, nI_sub1, nI_clamp, gIn_t, gck_t, gLet_e, nI_leI, nI_ltJ, nI_eq, nI_nM_eq, nM_nI_eq, nM_eq, nM_nI_le, nI_nM_le, nM_nI_lt, nI_nM_lt, at_nI, gS_at, gS_ne', obind_some, iteT, iteF, ite_p, ite_n]; exact hR.1
    · simp (disch := omega) only [nLit, neg_nI, nI_add, pk_mul, nI_sub1, nI_clamp, gIn_t, gck_t, gLet_e, nI_leI, nI_ltJ, nI_eq, nI_nM_eq, nM_nI_eq, nM_eq, nM_nI_le, nI_nM_le, nM_nI_lt, nI_nM_lt, at_nI, gS_at, gS_ne', obind_some, iteT, iteF, ite_p, ite_n]; exact hR.2.1
    · simp (disch := omega) only [nLit, neg_nI, nI_add, pk_mul, nI_sub1, nI_clamp, gIn_t, gck_t, gLet_e, nI_leI, nI_ltJ, nI_eq, nI_nM_eq, nM_nI_eq, nM_eq, nM_nI_le, nI_nM_le, nM_nI_lt, nI_nM_lt, at_nI, gS_at, gS_ne', obind_some, iteT, iteF, ite_p, ite_n]; exact hR.2.2.1
    · rw [gS_at]; exact nJ_of (show a.toInt = ((a.toInt.toNat : Nat) : Int) by omega)
    · exact (hR.sl (i := i) hi).off (hL.m1 i hi).2 (Z := fun k j => decide (k = 1 ∧ j < 4)) (gOff.rf.S1 (by simp)) (fun j h1 h2 => by simp; omega)
  · rw [if_neg ha, if_neg ha]; exact ⟨_, rfl, h, rfl⟩
end
section
/-! the Model: lose, settle, storm, undo, image, restore, type -/
theorem settle_ok {S : St} {G : gP} (hW : S.Wf) (h : mSt S G) (a w : Int32) : Ok (f_X11_settle G a w) (mA (sSettle S a w)) := by
  unfold f_X11_settle sSettle f_X11_isWord
  have hL := hW.now
  have h8 := hL.n8
  rw [isSlot_rg h8 h.now.1, in_rg w (lo := 0) (hi := 32) rfl rfl]
  cases ha : rg a 0 S.now.n with
  | none => exact ⟨_, rfl, h, rfl⟩
  | some s =>
    obtain ⟨-, hs, rfl⟩ := rg_some ha
    simp only [Option.isSome_some, if_true]
    rw [if_neg (by decide)]
    cases hw : rg w 0 32 with
    | none => exact ⟨_, rfl, h, rfl⟩
    | some wn =>
      obtain ⟨-, hwn, rfl⟩ := rg_some hw
      simp only [Option.isSome_some, if_true]
      rw [if_neg (by decide)]
      refine Ok.bind (placeOf_ok hL h.now hs (by omega)) (fun r hr => ?_)
      subst hr
      have hm := hL.m1 s hs
      simp (disch := omega) only [nLit, neg_nI, nI_add, pk_mul, nI_sub1, nI_clamp, gIn_t, gck_t, gLet_e, nI_leI, nI_ltJ, nI_eq, nI_nM_eq, nM_nI_eq, nM_eq, nM_nI_le, nI_nM_le, nM_nI_lt, nI_nM_lt, at_nI, gS_at, gS_ne', obind_some, iteT, iteF, ite_p, ite_n, (h.now.sl hs).1]
      cases hf : fnd (S.now.w s) wn (S.now.m s) with
      | none => exact ⟨_, rfl, h, rfl⟩
      | some j =>
        have hj := fnd_some _ _ hf
        have e4 : rI (some j) = nI j := rfl
        rw [e4]
        simp (disch := omega) only [nLit, neg_nI, nI_add, pk_mul, nI_sub1, nI_clamp, gIn_t, gck_t, gLet_e, nI_leI, nI_ltJ, nI_eq, nI_nM_eq, nM_nI_eq, nM_eq, nM_nI_le, nI_nM_le, nM_nI_lt, nI_nM_lt, at_nI, gS_at, gS_ne', obind_some, iteT, iteF, ite_p, ite_n]
        by_cases hn : S.now.m s = 1
        · rw [if_pos hn, if_pos hn]; exact ⟨_, rfl, h, rfl⟩
        · rw [if_neg hn, if_neg hn]
          refine Ok.bind (h.note hW) (fun G1 h1 => ?_)
          have hsl := h1.2.now.sl (i := s) hs
          have hc10 := hL.c10 s j hs hj.1
          have e1 : gS G1 1 (4 + 9 * s + 5 + j) = nI (S.now.c s j) := by
            rw [show 4 + 9 * s + 5 + j = 9 + 9 * s + j by omega]; exact (hsl.2 j hj.1).2
          rw [e1]
          refine Ok.bind (Q := fun G2 => gOff (fun k j => decide (k = 1 ∧ 4 + 9 * s ≤ j ∧ j < 13 + 9 * s)) G1 G2 ∧ gS G2 1 (4 + 9 * s) = nI 0) ?_ (fun G2 h2 => ?_)
          · refine Ok.up (fun t r => r.2 = nI t ∧ gOff (fun k j => decide (k = 1 ∧ 4 + 9 * s ≤ j ∧ j < 13 + 9 * s)) G1 r.1 ∧ (0 < t → gS r.1 1 (4 + 9 * s) = nI 0)) 9 (by decide) ?_ ?_ ⟨rfl, gOff.rf, fun z => by omega⟩
            · rintro t ⟨G2, x⟩ ht ⟨hx, hO, hz⟩
              simp only at hx hO hz
              subst hx
              unfold f_X11_settle_b74
              simp (disch := omega) only [nLit, neg_nI, nI_add, pk_mul, nI_sub1, nI_clamp, gIn_t, gck_t, gLet_e, nI_leI, nI_ltJ, nI_eq, nI_nM_eq, nM_nI_eq, nM_eq, nM_nI_le, nI_nM_le, nM_nI_lt, nI_nM_lt, at_nI, gS_at, gS_ne', obind_some, iteT, iteF, ite_p, ite_n]
              refine ⟨_, rfl, rfl, hO.S1 (by simp; omega), fun _ => ?_⟩
              simp only
              by_cases e : t = 0
              · subst e; rw [Nat.add_zero, gS_at]
              · rw [gS_ne (by omega)]; exact hz (by omega)
            · rintro ⟨G2, x⟩ ⟨hx, hO, hz⟩
              simp only at hx hO hz
              subst hx
              unfold f_X11_settle_b74
              simp (disch := omega) only [nLit, neg_nI, nI_add, pk_mul, nI_sub1, nI_clamp, gIn_t, gck_t, gLet_e, nI_leI, nI_ltJ, nI_eq, nI_nM_eq, nM_nI_eq, nM_eq, nM_nI_le, nI_nM_le, nM_nI_lt, nI_nM_lt, at_nI, gS_at, gS_ne', obind_some, iteT, iteF, ite_p, ite_n]
              exact ⟨_, rfl, hO, hz (by omega)⟩
          · refine Ok.bind (comes_ok (w0 := fun _ => 0) (c0 := fun _ => 0) (by omega) ⟨h2.2, fun j hj => by omega⟩ (by omega)) (fun G3 h3 => ?_)
            have hO3 := h2.1.tr h3.1
            refine ⟨_, rfl, h1.2.up (hO3.w (fun k j hz => by simp [nowZ] at hz ⊢; omega)) (mRow.put hL h1.2.now hO3 ?_), ?_⟩
            · refine ⟨h3.2.1, fun i hi => ?_⟩
              have hi0 : i = 0 := by omega
              subst hi0
              have := h3.2.2 0 (by omega)
              refine ⟨?_, this.2⟩
              rw [this.1]; unfold setp; simp only [if_true]; rw [hj.2]
            · rfl
theorem lose_ok {S : St} {G : gP} (hW : S.Wf) (h : mSt S G) (a : Int32) : Ok (f_X11_lose G a) (mA (sLose S a)) := by
  unfold f_X11_lose sLose
  have hL := hW.now
  have h8 := hL.n8
  rw [isSlot_rg h8 h.now.1]
  cases ha : rg a 0 S.now.n with
  | none => exact ⟨_, rfl, h, rfl⟩
  | some s =>
    obtain ⟨-, hs, rfl⟩ := rg_some ha
    simp only [Option.isSome_some, if_true]
    rw [if_neg (by decide)]
    refine Ok.bind (h.note hW) (fun G1 h1 => ?_)
    have hR := h1.2.now
    have e0 : gS G1 1 0 = nI S.now.n := hR.1
    simp (disch := omega) only [nLit, neg_nI, nI_add, pk_mul, nI_sub1, nI_clamp, gIn_t, gck_t, gLet_e, nI_leI, nI_ltJ, nI_eq, nI_nM_eq, nM_nI_eq, nM_eq, nM_nI_le, nI_nM_le, nM_nI_lt, nI_nM_lt, at_nI, gS_at, gS_ne', obind_some, iteT, iteF, ite_p, ite_n, e0]
    generalize hG5 : gS1 G1 1 0 (nI (S.now.n - 1)) = G5
    have hO5 : gOff (fun k j => decide (k = 1 ∧ j = 0)) G1 G5 := by rw [← hG5]; exact gOff.rf.S1 (by simp)
    have g5 : gS G5 1 0 = nI (S.now.n - 1) := by rw [← hG5, gS_at]
    -- the slots behind it move up
    refine Ok.bind (Q := fun G2 => gOff (fun k j => decide (k = 1 ∧ 4 + 9 * s ≤ j)) G5 G2 ∧ ∀ j, 4 + 9 * s ≤ j → j < 4 + 9 * (S.now.n - 1) → gS G2 1 j = gS G5 1 (j + 9)) ?_ (fun G2 h2 => ?_)
    · refine Ok.up (fun t r => r.2 = nI (4 + 9 * s + t) ∧ gOff (fun k j => decide (k = 1 ∧ 4 + 9 * s ≤ j)) G5 r.1 ∧ (∀ j, 4 + 9 * s ≤ j → j < 4 + 9 * s + t → gS r.1 1 j = gS G5 1 (j + 9)) ∧ ∀ j, 4 + 9 * s + t ≤ j → gS r.1 1 j = gS G5 1 j) (9 * (S.now.n - 1 - s)) (by omega) ?_ ?_ ⟨rfl, gOff.rf, fun j h1 h2 => by omega, fun j _ => rfl⟩
      · rintro t ⟨G2, x⟩ ht ⟨hx, hO, hc, hr⟩
        simp only at hx hO hc hr
        subst hx
        unfold f_X11_lose_b30
        have e2 : gS G2 1 0 = nI (S.now.n - 1) := by rw [(hO 1 0 (by simp)).1]; exact g5
        simp (disch := omega) only [nLit, neg_nI, nI_add, pk_mul, nI_sub1, nI_clamp, gIn_t, gck_t, gLet_e, nI_leI, nI_ltJ, nI_eq, nI_nM_eq, nM_nI_eq, nM_eq, nM_nI_le, nI_nM_le, nM_nI_lt, nI_nM_lt, at_nI, gS_at, gS_ne', obind_some, iteT, iteF, ite_p, ite_n, e2]
        refine ⟨_, rfl, rfl, hO.S1 (by simp), fun j hj1 hj2 => ?_, fun j hj => ?_⟩
        · simp only
          by_cases e : j = 4 + 9 * s + t
          · subst e; rw [gS_at, hr _ (by omega)]
          · rw [gS_ne (by omega)]; exact hc j hj1 (by omega)
        · simp only
          rw [gS_ne (by omega)]; exact hr j (by omega)
      · rintro ⟨G2, x⟩ ⟨hx, hO, hc, hr⟩
        simp only at hx hO hc hr
        subst hx
        unfold f_X11_lose_b30
        have e2 : gS G2 1 0 = nI (S.now.n - 1) := by rw [(hO 1 0 (by simp)).1]; exact g5
        simp (disch := omega) only [nLit, neg_nI, nI_add, pk_mul, nI_sub1, nI_clamp, gIn_t, gck_t, gLet_e, nI_leI, nI_ltJ, nI_eq, nI_nM_eq, nM_nI_eq, nM_eq, nM_nI_le, nI_nM_le, nM_nI_lt, nI_nM_lt, at_nI, gS_at, gS_ne', obind_some, iteT, iteF, ite_p, ite_n, e2]
        exact ⟨_, rfl, hO, fun j h1 h2 => hc j h1 (by omega)⟩
    · obtain ⟨hO2, hc2⟩ := h2
      have g2 : gS G2 1 0 = nI (S.now.n - 1) := by rw [(hO2 1 0 (by simp)).1]; exact g5
      refine Ok.bind (Q := fun G3 => gOff (fun k j => decide (k = 1 ∧ 4 + 9 * (S.now.n - 1) ≤ j)) G2 G3) ?_ (fun G3 hO3 => ?_)
      · refine Ok.up (fun t r => r.2 = nI t ∧ gOff (fun k j => decide (k = 1 ∧ 4 + 9 * (S.now.n - 1) ≤ j)) G2 r.1) 9 (by decide) ?_ ?_ ⟨rfl, gOff.rf⟩
        · rintro t ⟨G3, x⟩ ht ⟨hx, hO⟩
          simp only at hx hO
          subst hx
          unfold f_X11_lose_b67
          have e3 : gS G3 1 0 = nI (S.now.n - 1) := by rw [(hO 1 0 (by simp)).1]; exact g2
          simp (disch := omega) only [nLit, neg_nI, nI_add, pk_mul, nI_sub1, nI_clamp, gIn_t, gck_t, gLet_e, nI_leI, nI_ltJ, nI_eq, nI_nM_eq, nM_nI_eq, nM_eq, nM_nI_le, nI_nM_le, nM_nI_lt, nI_nM_lt, at_nI, gS_at, gS_ne', obind_some, iteT, iteF, ite_p, ite_n, e3]
          exact ⟨_, rfl, rfl, hO.S1 (by simp)⟩
        · rintro ⟨G3, x⟩ ⟨hx, hO⟩
          simp only at hx hO
          subst hx
          unfold f_X11_lose_b67
          simp (disch := omega) only [nLit, neg_nI, nI_add, pk_mul, nI_sub1, nI_clamp, gIn_t, gck_t, gLet_e, nI_leI, nI_ltJ, nI_eq, nI_nM_eq, nM_nI_eq, nM_eq, nM_nI_le, nI_nM_le, nM_nI_lt, nI_nM_lt, at_nI, gS_at, gS_ne', obind_some, iteT, iteF, ite_p, ite_n]
          exact ⟨_, rfl, hO⟩
      · have g3 : gS G3 1 0 = nI (S.now.n - 1) := by rw [(hO3 1 0 (by simp)).1]; exact g2
        have hl : ∀ j, 0 < j → j < 4 + 9 * s → j < 4 + 9 * (S.now.n - 1) → gS G3 1 j = gS G1 1 j := fun j h0 h1 h2 => by
          rw [(hO3 1 j (by simp; omega)).1, (hO2 1 j (by simp; omega)).1, (hO5 1 j (by simp; omega)).1]
        have hh : ∀ j, 4 + 9 * s ≤ j → j < 4 + 9 * (S.now.n - 1) → gS G3 1 j = gS G1 1 (j + 9) := fun j h1 h2 => by
          rw [(hO3 1 j (by simp; omega)).1, hc2 j h1 h2, (hO5 1 (j + 9) (by simp)).1]
        refine ⟨_, rfl, h1.2.up ?_ (mRow.of g3 ?_ ?_ ?_ (fun i hi => ?_)), g3⟩
        · exact ((hO5.w (fun k j hz => by simp [nowZ] at hz ⊢; omega)).tr (hO2.w (fun k j hz => by simp [nowZ] at hz ⊢; omega))).tr (hO3.w (fun k j hz => by simp [nowZ] at hz ⊢; omega))
        · rw [hl 1 (by omega) (by omega) (by omega)]; exact hR.2.1
        · rw [hl 2 (by omega) (by omega) (by omega)]; exact hR.2.2.1
        · rw [hl 3 (by omega) (by omega) (by omega)]; exact hR.2.2.2.1
        · have hi' : i < S.now.n - 1 := hi
          unfold Lt.del
          simp only [Lt.mk_n, Lt.mk_kind, Lt.mk_slack, Lt.mk_draw, Lt.mk_m, Lt.mk_w, Lt.mk_c, St.mk_now, St.mk_past, St.mk_kept, St.mk_tape, St.mk_sh]
          by_cases e : i < s
          · simp only [e, if_true]
            have hsl := hR.sl (i := i) (show i < S.now.n by omega)
            have hm : S.now.m i ≤ 4 := (hL.m1 i (by omega)).2
            refine ⟨by rw [hl _ (by omega) (by omega) (by omega)]; exact hsl.1, fun j hj => ⟨?_, ?_⟩⟩
            · rw [hl _ (by omega) (by omega) (by omega)]; exact (hsl.2 j hj).1
            · rw [hl _ (by omega) (by omega) (by omega)]; exact (hsl.2 j hj).2
          · simp only [e, if_false]
            have hsl := hR.sl (i := i + 1) (show i + 1 < S.now.n by omega)
            have hm : S.now.m (i + 1) ≤ 4 := (hL.m1 (i + 1) (by omega)).2
            refine ⟨?_, fun j hj => ⟨?_, ?_⟩⟩
            · rw [hh _ (by omega) (by omega), show 4 + 9 * i + 9 = 4 + 9 * (i + 1) by omega]; exact hsl.1
            · rw [hh _ (by omega) (by omega), show 5 + 9 * i + j + 9 = 5 + 9 * (i + 1) + j by omega]; exact (hsl.2 j hj).1
            · rw [hh _ (by omega) (by omega), show 9 + 9 * i + j + 9 = 9 + 9 * (i + 1) + j by omega]; exact (hsl.2 j hj).2
theorem undo_ok {S : St} {G : gP} (hW : S.Wf) (h : mSt S G) : Ok (f_X11_undo G) (mA (sUndo S)) := by
  unfold f_X11_undo sUndo
  have h8 := hW.p8
  cases hp : S.past.getLast? with
  | none =>
    have : S.past = [] := List.getLast?_eq_none_iff.mp hp
    rw [h.un, this, if_pos (show nI ([] : List Lt).length = 0 from rfl)]
    exact ⟨_, rfl, h, rfl⟩
  | some L =>
    have hlen : 0 < S.past.length := List.length_pos_iff.mpr (fun z => by rw [z] at hp; cases hp)
    rw [List.getLast?_eq_getElem?] at hp
    have hLW := hW.past L (List.mem_of_getElem? hp)
    simp (disch := omega) only [nLit, neg_nI, nI_add, pk_mul, nI_sub1, nI_clamp, gIn_t, gck_t, gLet_e, nI_leI, nI_ltJ, nI_eq, nI_nM_eq, nM_nI_eq, nM_eq, nM_nI_le, nI_nM_le, nM_nI_lt, nI_nM_lt, at_nI, gS_at, gS_ne', obind_some, iteT, iteF, ite_p, ite_n, h.un]
    generalize hG5 : gS1 G 0 29 (nI (S.past.length - 1)) = G5
    have hO5 : gOff (fun k j => decide (k = 0 ∧ j = 29)) G G5 := by rw [← hG5]; exact gOff.rf.S1 (by simp)
    have g29 : gS G5 0 29 = nI (S.past.length - 1) := by rw [← hG5, gS_at]
    refine Ok.bind (cpy_ok (N := 76) (dst := 1) (sd := 0) (src := 14) (ss := 76 * (S.past.length - 1)) (by decide) (by decide) ?_ ?_) (fun G2 h2 => ?_)
    · intro G2 i hO2 hi
      have e29 : gS G2 0 29 = nI (S.past.length - 1) := by rw [(hO2 0 29 rfl).1]; exact g29
      unfold f_X11_undo_b22
      simp (disch := omega) only [nLit, neg_nI, nI_add, pk_mul, nI_sub1, nI_clamp, gIn_t, gck_t, gLet_e, nI_leI, nI_ltJ, nI_eq, nI_nM_eq, nM_nI_eq, nM_eq, nM_nI_le, nI_nM_le, nM_nI_lt, nI_nM_lt, at_nI, gS_at, gS_ne', obind_some, iteT, iteF, ite_p, ite_n, e29, Nat.zero_add]
    · intro G2 hO2
      unfold f_X11_undo_b22
      simp (disch := omega) only [nLit, neg_nI, nI_add, pk_mul, nI_sub1, nI_clamp, gIn_t, gck_t, gLet_e, nI_leI, nI_ltJ, nI_eq, nI_nM_eq, nM_nI_eq, nM_eq, nM_nI_le, nI_nM_le, nM_nI_lt, nI_nM_lt, at_nI, gS_at, gS_ne', obind_some, iteT, iteF, ite_p, ite_n]
    · obtain ⟨hO2, hc⟩ := h2
      have e29 : gS G2 0 29 = nI (S.past.length - 1) := by rw [(hO2 0 29 (by simp)).1]; exact g29
      have hOO : gOff (fun k j => decide ((k = 0 ∧ j = 29) ∨ k = 1)) G G2 := (hO5.w (fun k j hz => by simp at hz ⊢; omega)).tr (hO2.w (fun k j hz => by simp at hz ⊢; omega))
      have hn : mRow G2 1 0 L := mRow.cp hLW ((h.past _ L hp).off hO5 (fun _ => rfl)) (fun j hj => hc j hj)
      have hh : mSt S G := h
      refine ⟨_, rfl, ⟨hn, ?_, ?_, ?_, ?_, ?_, ?_⟩, e29⟩
      · show gS G2 0 29 = nI S.past.dropLast.length
        rw [e29, List.length_dropLast]
      · intro i L' hi0
        have hi : S.past.dropLast[i]? = some L' := hi0
        have hi2 : S.past[i]? = some L' := by
          have : i < S.past.dropLast.length := (List.getElem?_eq_some_iff.mp hi).1
          rw [List.length_dropLast] at this
          rw [List.dropLast_eq_take, List.getElem?_take_of_lt (by omega)] at hi
          exact hi
        exact (h.past i L' hi2).off hOO (fun _ => rfl)
      · have hk := h.kept
        show match S.kept with | none => _ | some (L, p) => _
        cases hS : S.kept with
        | none => rw [hS] at hk; simp only at hk ⊢; rw [(hOO 0 32 rfl).1]; exact hk
        | some q =>
          obtain ⟨L, p⟩ := q
          rw [hS] at hk
          exact ⟨hk.1.off hOO (fun _ => rfl), by rw [(hOO 0 32 rfl).1]; exact hk.2.1, fun i L hi => (hk.2.2 i L hi).off hOO (fun _ => rfl)⟩
      · rw [(hOO 0 23 rfl).1]; exact h.tp
      · intro j v hj; rw [(hOO 11 _ rfl).1]; exact h.tape j v hj
      · intro s hs
        have := h.sh s hs
        show match S.sh s with | none => _ | some (k, l) => _
        cases hS : S.sh s with
        | none => rw [hS] at this; simp only at this ⊢; rw [(hOO 17 s rfl).1]; exact this
        | some q =>
          obtain ⟨k, l⟩ := q
          rw [hS] at this
          exact ⟨by rw [(hOO 17 s rfl).1]; exact this.1, by rw [(hOO 18 s rfl).1]; exact this.2.1, fun i v hi => by rw [(hOO 19 _ rfl).2.1]; exact this.2.2 i v hi⟩
theorem image_ok {S : St} {G : gP} (hW : S.Wf) (h : mSt S G) : Ok (f_X11_image G) (mA (sImage S)) := by
  unfold f_X11_image
  refine Ok.bind (cpy_ok (N := 76) (dst := 15) (sd := 0) (src := 1) (ss := 0) (by decide) (by decide) ?_ ?_) (fun G1 h1 => ?_)
  · intro G2 i hO2 hi
    unfold f_X11_image_b2
    simp (disch := omega) only [nLit, neg_nI, nI_add, pk_mul, nI_sub1, nI_clamp, gIn_t, gck_t, gLet_e, nI_leI, nI_ltJ, nI_eq, nI_nM_eq, nM_nI_eq, nM_eq, nM_nI_le, nI_nM_le, nM_nI_lt, nI_nM_lt, at_nI, gS_at, gS_ne', obind_some, iteT, iteF, ite_p, ite_n, Nat.zero_add]
  · intro G2 hO2
    unfold f_X11_image_b2
    simp (disch := omega) only [nLit, neg_nI, nI_add, pk_mul, nI_sub1, nI_clamp, gIn_t, gck_t, gLet_e, nI_leI, nI_ltJ, nI_eq, nI_nM_eq, nM_nI_eq, nM_eq, nM_nI_le, nI_nM_le, nM_nI_lt, nI_nM_lt, at_nI, gS_at, gS_ne', obind_some, iteT, iteF, ite_p, ite_n]
  refine Ok.bind (cpy_ok (N := 608) (dst := 16) (sd := 0) (src := 14) (ss := 0) (by decide) (by decide) ?_ ?_) (fun G2 h2 => ?_)
  · intro G2 i hO2 hi
    unfold f_X11_image_b28
    simp (disch := omega) only [nLit, neg_nI, nI_add, pk_mul, nI_sub1, nI_clamp, gIn_t, gck_t, gLet_e, nI_leI, nI_ltJ, nI_eq, nI_nM_eq, nM_nI_eq, nM_eq, nM_nI_le, nI_nM_le, nM_nI_lt, nI_nM_lt, at_nI, gS_at, gS_ne', obind_some, iteT, iteF, ite_p, ite_n, Nat.zero_add]
  · intro G2 hO2
    unfold f_X11_image_b28
    simp (disch := omega) only [nLit, neg_nI, nI_add, pk_mul, nI_sub1, nI_clamp, gIn_t, gck_t, gLet_e, nI_leI, nI_ltJ, nI_eq, nI_nM_eq, nM_nI_eq, nM_eq, nM_nI_le, nI_nM_le, nM_nI_lt, nI_nM_lt, at_nI, gS_at, gS_ne', obind_some, iteT, iteF, ite_p, ite_n]
  obtain ⟨hO1, hc1⟩ := h1
  obtain ⟨hO2, hc2⟩ := h2
  have e29 : gS G2 0 29 = nI S.past.length := by rw [(hO2 0 29 (by simp)).1, (hO1 0 29 (by simp)).1]; exact h.un
  simp only [gLet]
  rw [e29]
  have hOO : gOff (fun k j => decide (k = 15 ∨ k = 16 ∨ (k = 0 ∧ j = 32))) G (gS1 G2 0 32 (nI S.past.length)) := ((hO1.w (fun k j hz => by simp at hz ⊢; omega)).tr (hO2.w (fun k j hz => by simp at hz ⊢; omega))).S1 (by simp)
  have h8 := hW.p8
  refine ⟨_, rfl, ⟨h.now.off hOO (fun _ => rfl), ?_, fun i L hi => (h.past i L hi).off hOO (fun _ => rfl), ?_, ?_, ?_, ?_⟩, rfl⟩
  · rw [(hOO 0 29 rfl).1]; exact h.un
  · refine ⟨mRow.cp hW.now h.now (fun j hj => ?_), gS_at, fun i L hi => mRow.cp (hW.past L (List.mem_of_getElem? hi)) (h.past i L hi) (fun j hj => ?_)⟩
    · show gS (gS1 G2 0 32 _) 15 _ = _
      rw [gS_ne (by omega), (hO2 15 _ (by simp)).1, hc1 j hj]
    · have hil : i < S.past.length := (List.getElem?_eq_some_iff.mp hi).1
      show gS (gS1 G2 0 32 _) 16 _ = _
      have := hc2 (76 * i + j) (by omega)
      rw [Nat.zero_add] at this
      rw [gS_ne (by omega), this, (hO1 14 _ (by simp)).1]
  · rw [(hOO 0 23 rfl).1]; exact h.tp
  · intro j v hj; rw [(hOO 11 _ rfl).1]; exact h.tape j v hj
  · intro s hs
    have := h.sh s hs
    show match S.sh s with | none => _ | some (k, l) => _
    cases hS : S.sh s with
    | none => rw [hS] at this; simp only at this ⊢; rw [(hOO 17 s rfl).1]; exact this
    | some q =>
      obtain ⟨k, l⟩ := q
      rw [hS] at this
      exact ⟨by rw [(hOO 17 s rfl).1]; exact this.1, by rw [(hOO 18 s rfl).1]; exact this.2.1, fun i v hi => by rw [(hOO 19 _ rfl).2.1]; exact this.2.2 i v hi⟩
theorem restore_ok {S : St} {G : gP} (hW : S.Wf) (h : mSt S G) : Ok (f_X11_restore G) (mA (sRestore S)) := by
  unfold f_X11_restore sRestore
  have hk := h.kept
  cases hS : S.kept with
  | none => rw [hS] at hk; simp only at hk; rw [hk, if_neg (by decide)]; exact ⟨_, rfl, h, rfl⟩
  | some q =>
    obtain ⟨L, p⟩ := q
    rw [hS] at hk
    obtain ⟨hk1, hk2, hk3⟩ := hk
    obtain ⟨w1, w2, w3⟩ := hW.kept L p hS
    rw [hk2, if_pos (nI_pos' (by omega))]
    refine Ok.bind (cpy_ok (N := 76) (dst := 1) (sd := 0) (src := 15) (ss := 0) (by decide) (by decide) ?_ ?_) (fun G1 h1 => ?_)
    · intro G2 i hO2 hi
      unfold f_X11_restore_b12
      simp (disch := omega) only [nLit, neg_nI, nI_add, pk_mul, nI_sub1, nI_clamp, gIn_t, gck_t, gLet_e, nI_leI, nI_ltJ, nI_eq, nI_nM_eq, nM_nI_eq, nM_eq, nM_nI_le, nI_nM_le, nM_nI_lt, nI_nM_lt, at_nI, gS_at, gS_ne', obind_some, iteT, iteF, ite_p, ite_n, Nat.zero_add]
    · intro G2 hO2
      unfold f_X11_restore_b12
      simp (disch := omega) only [nLit, neg_nI, nI_add, pk_mul, nI_sub1, nI_clamp, gIn_t, gck_t, gLet_e, nI_leI, nI_ltJ, nI_eq, nI_nM_eq, nM_nI_eq, nM_eq, nM_nI_le, nI_nM_le, nM_nI_lt, nI_nM_lt, at_nI, gS_at, gS_ne', obind_some, iteT, iteF, ite_p, ite_n]
    refine Ok.bind (cpy_ok (N := 608) (dst := 14) (sd := 0) (src := 16) (ss := 0) (by decide) (by decide) ?_ ?_) (fun G2 h2 => ?_)
    · intro G2 i hO2 hi
      unfold f_X11_restore_b38
      simp (disch := omega) only [nLit, neg_nI, nI_add, pk_mul, nI_sub1, nI_clamp, gIn_t, gck_t, gLet_e, nI_leI, nI_ltJ, nI_eq, nI_nM_eq, nM_nI_eq, nM_eq, nM_nI_le, nI_nM_le, nM_nI_lt, nI_nM_lt, at_nI, gS_at, gS_ne', obind_some, iteT, iteF, ite_p, ite_n, Nat.zero_add]
    · intro G2 hO2
      unfold f_X11_restore_b38
      simp (disch := omega) only [nLit, neg_nI, nI_add, pk_mul, nI_sub1, nI_clamp, gIn_t, gck_t, gLet_e, nI_leI, nI_ltJ, nI_eq, nI_nM_eq, nM_nI_eq, nM_eq, nM_nI_le, nI_nM_le, nM_nI_lt, nI_nM_lt, at_nI, gS_at, gS_ne', obind_some, iteT, iteF, ite_p, ite_n]
    obtain ⟨hO1, hc1⟩ := h1
    obtain ⟨hO2, hc2⟩ := h2
    have e32 : gS G2 0 32 = nI p.length := by rw [(hO2 0 32 (by simp)).1, (hO1 0 32 (by simp)).1]; exact hk2
    simp only [gLet]
    rw [e32]
    have hOO : gOff (fun k j => decide (k = 1 ∨ k = 14 ∨ (k = 0 ∧ j = 29))) G (gS1 G2 0 29 (nI p.length)) := ((hO1.w (fun k j hz => by simp at hz ⊢; omega)).tr (hO2.w (fun k j hz => by simp at hz ⊢; omega))).S1 (by simp)
    refine ⟨_, rfl, ⟨mRow.cp w1 hk1 (fun j hj => ?_), gS_at, fun i L' hi => mRow.cp (w2 L' (List.mem_of_getElem? hi)) (hk3 i L' hi) (fun j hj => ?_), ?_, ?_, ?_, ?_⟩, rfl⟩
    · show gS (gS1 G2 0 29 _) 1 _ = _
      rw [gS_ne (by omega), (hO2 1 _ (by simp)).1, hc1 j hj]
    · have hil : i < p.length := (List.getElem?_eq_some_iff.mp hi).1
      show gS (gS1 G2 0 29 _) 14 _ = _
      have := hc2 (76 * i + j) (by omega)
      rw [Nat.zero_add] at this
      rw [gS_ne (by omega), this, (hO1 16 _ (by simp)).1]
    · exact ⟨hk1.off hOO (fun _ => rfl), by rw [(hOO 0 32 rfl).1]; exact hk2, fun i L hi => (hk3 i L hi).off hOO (fun _ => rfl)⟩
    · rw [(hOO 0 23 rfl).1]; exact h.tp
    · intro j v hj; rw [(hOO 11 _ rfl).1]; exact h.tape j v hj
    · intro s hs
      have := h.sh s hs
      show match S.sh s with | none => _ | some (k, l) => _
      cases hS : S.sh s with
      | none => rw [hS] at this; simp only at this ⊢; rw [(hOO 17 s rfl).1]; exact this
      | some q =>
        obtain ⟨k, l⟩ := q
        rw [hS] at this
        exact ⟨by rw [(hOO 17 s rfl).1]; exact this.1, by rw [(hOO 18 s rfl).1]; exact this.2.1, fun i v hi => by rw [(hOO 19 _ rfl).2.1]; exact this.2.2 i v hi⟩
def sType (S : St) (a : Int32) : St × Int32 := match rg a 32 127 with
  | none => (S, -1)
  | some v => if S.tape.length = 120 then (S, -3) else ((St.of (S.now) (S.past) (S.kept) (S.tape ++ [v]) (S.sh)), nI (S.tape.length + 1))
theorem type_ok {S : St} {G : gP} (hW : S.Wf) (h : mSt S G) (a : Int32) : Ok (f_X11_type G a) (mA (sType S a)) := by
  unfold f_X11_type sType
  rw [in_rg a (lo := 32) (hi := 127) rfl rfl]
  cases ha : rg a 32 127 with
  | none => exact ⟨_, rfl, h, rfl⟩
  | some v =>
    obtain ⟨-, hv, rfl⟩ := rg_some ha
    simp only [Option.isSome_some, if_true]
    rw [if_neg (by decide)]
    have h120 := hW.tape.1
    simp (disch := omega) only [nLit, neg_nI, nI_add, pk_mul, nI_sub1, nI_clamp, gIn_t, gck_t, gLet_e, nI_leI, nI_ltJ, nI_eq, nI_nM_eq, nM_nI_eq, nM_eq, nM_nI_le, nI_nM_le, nM_nI_lt, nI_nM_lt, at_nI, gS_at, gS_ne', obind_some, iteT, iteF, ite_p, ite_n, h.tp]
    by_cases hn : S.tape.length = 120
    · rw [if_pos hn, if_pos hn]; exact ⟨_, rfl, h, rfl⟩
    · rw [if_neg hn, if_neg hn]
      have hOO : gOff (fun k j => decide (k = 11 ∨ (k = 0 ∧ j = 23))) G (gS1 (gS1 G 11 S.tape.length (nI v)) 0 23 (nI (S.tape.length + 1))) := (gOff.rf.S1 (by simp)).S1 (by simp)
      refine ⟨_, rfl, ⟨h.now.off hOO (fun _ => rfl), ?_, fun i L hi => (h.past i L hi).off hOO (fun _ => rfl), ?_, ?_, ?_, ?_⟩, rfl⟩
      · rw [(hOO 0 29 rfl).1]; exact h.un
      · have hk := h.kept
        show match S.kept with | none => _ | some (L, p) => _
        cases hS : S.kept with
        | none => rw [hS] at hk; simp only at hk ⊢; rw [(hOO 0 32 rfl).1]; exact hk
        | some q =>
          obtain ⟨L, p⟩ := q
          rw [hS] at hk
          exact ⟨hk.1.off hOO (fun _ => rfl), by rw [(hOO 0 32 rfl).1]; exact hk.2.1, fun i L hi => (hk.2.2 i L hi).off hOO (fun _ => rfl)⟩
      · show gS _ 0 23 = nI (S.tape ++ [v]).length
        rw [gS_at, List.length_append, List.length_singleton]
      · have := (h.tape.push (v := v)).S1 (a := 0) (i := 23) (v := nI (S.tape.length + 1)) (Or.inl (by decide))
        rwa [Nat.zero_add] at this
      · intro s hs
        have := h.sh s hs
        show match S.sh s with | none => _ | some (k, l) => _
        cases hS : S.sh s with
        | none => rw [hS] at this; simp only at this ⊢; rw [(hOO 17 s rfl).1]; exact this
        | some q =>
          obtain ⟨k, l⟩ := q
          rw [hS] at this
          exact ⟨by rw [(hOO 17 s rfl).1]; exact this.1, by rw [(hOO 18 s rfl).1]; exact this.2.1, fun i v hi => by rw [(hOO 19 _ rfl).2.1]; exact this.2.2 i v hi⟩
end
section
/-! states stay well; the Model: storm -/
theorem Lt.Wf.put {L : Lt} (hL : L.Wf) {s m : Nat} {w c : Nat → Nat} (hm : 1 ≤ m ∧ m ≤ 4) (hw : ∀ j, j < m → w j < 32) (hc : ∀ j, j < m → c j < 10) (hd : ∀ i j, i < j → j < m → w i ≠ w j) : (L.put s m w c).Wf := by
  refine ⟨hL.n8, hL.k5, hL.s20, hL.dr, fun k hk => ?_, fun k j hk hj => ?_, fun k j hk hj => ?_, fun k i j hk hi hj => ?_⟩
  all_goals (unfold Lt.put at *; simp only [Lt.mk_n, Lt.mk_kind, Lt.mk_slack, Lt.mk_draw, Lt.mk_m, Lt.mk_w, Lt.mk_c, St.mk_now, St.mk_past, St.mk_kept, St.mk_tape, St.mk_sh] at *; by_cases e : k = s)
  · subst e; simp only [if_true]; exact hm
  · simp only [e, if_false]; exact hL.m1 k hk
  · subst e; simp only [if_true] at *; exact hw j hj
  · simp only [e, if_false] at *; exact hL.w32 k j hk hj
  · subst e; simp only [if_true] at *; exact hc j hj
  · simp only [e, if_false] at *; exact hL.c10 k j hk hj
  · subst e; simp only [if_true] at *; exact hd i j hi hj
  · simp only [e, if_false] at *; exact hL.ds k i j hk hi hj
theorem Lt.Wf.more {L : Lt} (hL : L.Wf) {w c : Nat} (hn : L.n < 8) (hw : w < 32) (hc : c < 10) : (L.more w c).Wf := by
  refine ⟨by show L.n + 1 ≤ 8; omega, hL.k5, hL.s20, hL.dr, fun k hk => ?_, fun k j hk hj => ?_, fun k j hk hj => ?_, fun k i j hk hi hj => ?_⟩
  all_goals (unfold Lt.more Lt.put at *; simp only [Lt.mk_n, Lt.mk_kind, Lt.mk_slack, Lt.mk_draw, Lt.mk_m, Lt.mk_w, Lt.mk_c, St.mk_now, St.mk_past, St.mk_kept, St.mk_tape, St.mk_sh] at *; by_cases e : k = L.n)
  · subst e; simp
  · simp only [e, if_false]; exact hL.m1 k (by omega)
  · subst e; simp only [if_true] at *; exact hw
  · have hk2 : k < L.n := by omega
    simp only [e, if_false] at hj ⊢; exact hL.w32 k j hk2 hj
  · subst e; simp only [if_true] at *; exact hc
  · have hk2 : k < L.n := by omega
    simp only [e, if_false] at hj ⊢; exact hL.c10 k j hk2 hj
  · subst e; simp only [if_true] at *; omega
  · have hk2 : k < L.n := by omega
    simp only [e, if_false] at hj ⊢; exact hL.ds k i j hk2 hi hj
theorem Lt.Wf.add {L : Lt} (hL : L.Wf) {s w c : Nat} (hs : s < L.n) (hm : L.m s < 4) (hf : fnd (L.w s) w (L.m s) = none) (hw : w < 32) (hc : c < 10) : (L.add s w c).Wf := by
  unfold Lt.add
  refine hL.put ⟨by omega, by omega⟩ (fun j hj => ?_) (fun j hj => ?_) (fun i j hi hj => ?_)
  · unfold setp; split
    · exact hw
    · exact hL.w32 s j hs (by omega)
  · unfold setp; split
    · exact hc
    · exact hL.c10 s j hs (by omega)
  · unfold setp
    rw [if_neg (show ¬ i = L.m s by omega)]
    split
    · exact fnd_none _ hf i (by omega)
    · exact hL.ds s i j hs hi (by omega)
theorem Lt.Wf.del {L : Lt} (hL : L.Wf) (s : Nat) (hs : s < L.n) : (L.del s).Wf := by
  have h8 := hL.n8
  refine ⟨by show L.n - 1 ≤ 8; omega, hL.k5, hL.s20, hL.dr, fun k hk => ?_, fun k j hk hj => ?_, fun k j hk hj => ?_, fun k i j hk hi hj => ?_⟩
  all_goals (unfold Lt.del at *; simp only [Lt.mk_n, Lt.mk_kind, Lt.mk_slack, Lt.mk_draw, Lt.mk_m, Lt.mk_w, Lt.mk_c, St.mk_now, St.mk_past, St.mk_kept, St.mk_tape, St.mk_sh] at *; by_cases e : k < s)
  · simp only [e, if_true]; exact hL.m1 k (by omega)
  · simp only [e, if_false]; exact hL.m1 (k + 1) (by omega)
  · simp only [e, if_true] at *; exact hL.w32 k j (by omega) hj
  · simp only [e, if_false] at *; exact hL.w32 (k + 1) j (by omega) hj
  · simp only [e, if_true] at *; exact hL.c10 k j (by omega) hj
  · simp only [e, if_false] at *; exact hL.c10 (k + 1) j (by omega) hj
  · simp only [e, if_true] at *; exact hL.ds k i j (by omega) hi hj
  · simp only [e, if_false] at *; exact hL.ds (k + 1) i j (by omega) hi hj
theorem Lt.Wf.hd {L : Lt} (hL : L.Wf) {k s d : Nat} (hk : k < 5) (hs : s ≤ 20) (hd : d < 2 ^ 31) : ((Lt.of (L.n) (k) (s) (d) (L.m) (L.w) (L.c)) : Lt).Wf := ⟨hL.n8, hk, hs, hd, hL.m1, hL.w32, hL.c10, hL.ds⟩
theorem Lt.Wf.dr1 {L : Lt} (hL : L.Wf) {d : Nat} (hd : d < 2 ^ 31) (x : Nat) : (L.dr1 d x).Wf := by
  unfold Lt.dr1
  have h1 : ((Lt.of (L.n) (L.kind) (L.slack) (d) (L.m) (L.w) (L.c)) : Lt).Wf := hL.hd hL.k5 hL.s20 hd
  by_cases hn : L.n = 0
  · rw [if_pos hn]; exact h1
  · rw [if_neg hn]
    by_cases hc : L.m (x % L.n) < 4 ∧ fnd (L.w (x % L.n)) (x / 8 % 32) (L.m (x % L.n)) = none
    · rw [if_pos hc]
      exact h1.add (Nat.mod_lt _ (show 0 < L.n by omega)) hc.1 hc.2 (Nat.mod_lt _ (by omega)) (Nat.mod_lt _ (by omega))
    · rw [if_neg hc]; exact h1
theorem Lt.Wf.drawn {L : Lt} (hL : L.Wf) : L.drawn.Wf := hL.dr1 (nxD_lt _) _
theorem pushP_mem {p : List Lt} {L x : Lt} (h : x ∈ pushP p L) : x ∈ p ∨ x = L := by
  unfold pushP at h
  rcases List.mem_append.mp h with h | h
  · split at h
    · exact Or.inl (List.mem_of_mem_tail h)
    · exact Or.inl h
  · exact Or.inr (List.mem_singleton.mp h)
theorem St.Wf.up {S : St} (h : S.Wf) {L : Lt} (hL : L.Wf) : (S.up L).Wf := by
  refine ⟨hL, fun x hx => ?_, ?_, h.kept, h.tape, h.sh⟩
  · rcases pushP_mem hx with h1 | h1
    · exact h.past x h1
    · subst h1; exact h.now
  · show (pushP S.past S.now).length ≤ 8
    rw [pushP_len h.p8]
    have := h.p8
    split <;> omega
theorem St.Wf.storm {S : St} (h : S.Wf) : ∀ n, (S.storm n).Wf := by
  intro n
  induction n with
  | zero => exact h
  | succ n ih => exact ih.up ih.now.drawn
theorem nI_L {n : Nat} (h : n < 2 ^ 31) : (nI n).toInt64 = iL n := by
  rw [← Int64.toInt_inj, Int32.toInt_toInt64, nI_toInt h, iL_toInt (by omega)]
theorem iL_I (n : Nat) : (iL n).toInt32 = nI n := by
  unfold iL nI
  exact Int64.toInt32_ofNat'
theorem draw_I {d : Nat} (hd : d < 2 ^ 31) : (gRemL ((nI d).toInt64 * 1103515245 + 12345) 2147483648).toInt32 = nI (nxD d) := by
  rw [nxD_def, nI_L hd, show (1103515245 : Int64) = iL 1103515245 from rfl, show (12345 : Int64) = iL 12345 from rfl, show (2147483648 : Int64) = iL 2147483648 from rfl, iL_mul, iL_add, iL_rem (by omega) (by decide) (by decide), iL_I]
theorem storm1_ok {S : St} {G : gP} (hW : S.Wf) (h : mSt S G) {n i : Nat} (hi : i < n) (hn : n < 2 ^ 30) : Ok (f_X11_storm_b16 (nI n) (G, nI i)) (fun r => ∃ G', r = .inl (G', nI (i + 1)) ∧ mSt (S.up S.now.drawn) G') := by
  unfold f_X11_storm_b16
  simp only
  rw [if_neg (nI_ge hi (by omega))]
  refine Ok.bind (h.note hW) (fun G1 h1 => ?_)
  have hL := hW.now
  have h8 := hL.n8
  have hR := h1.2.now
  have e3 : gS G1 1 3 = nI S.now.draw := hR.2.2.2.1
  simp only [gLet_e, gS_at]
  rw [e3, draw_I hL.dr]
  unfold Lt.drawn
  have hd := nxD_lt S.now.draw
  generalize nxD S.now.draw = d at *
  have hR3 : mRow (gS1 G1 1 3 (nI d)) 1 0 (Lt.of (S.now.n) (S.now.kind) (S.now.slack) (d) (S.now.m) (S.now.w) (S.now.c)) := by
    refine mRow.of ?_ ?_ ?_ gS_at (fun i hi => ?_)
    · simp (disch := omega) only [nLit, neg_nI, nI_add, pk_mul, nI_sub1, nI_clamp, gIn_t, gck_t, gLet_e, nI_leI, nI_ltJ, nI_eq, nI_nM_eq, nM_nI_eq, nM_eq, nM_nI_le, nI_nM_le, nM_nI_lt, nI_nM_lt, at_nI, gS_at, gS_ne', obind_some, iteT, iteF, ite_p, ite_n]; exact hR.1
    · simp (disch := omega) only [nLit, neg_nI, nI_add, pk_mul, nI_sub1, nI_clamp, gIn_t, gck_t, gLet_e, nI_leI, nI_ltJ, nI_eq, nI_nM_eq, nM_nI_eq, nM_eq, nM_nI_le, nI_nM_le, nM_nI_lt, nI_nM_lt, at_nI, gS_at, gS_ne', obind_some, iteT, iteF, ite_p, ite_n]; exact hR.2.1
    · simp (disch := omega) only [nLit, neg_nI, nI_add, pk_mul, nI_sub1, nI_clamp, gIn_t, gck_t, gLet_e, nI_leI, nI_ltJ, nI_eq, nI_nM_eq, nM_nI_eq, nM_eq, nM_nI_le, nI_nM_le, nM_nI_lt, nI_nM_lt, at_nI, gS_at, gS_ne', obind_some, iteT, iteF, ite_p, ite_n]; exact hR.2.2.1
    · exact (hR.sl (i := i) hi).off (hL.m1 i hi).2 (Z := fun k j => decide (k = 1 ∧ j < 4)) (gOff.rf.S1 (by simp)) (fun j h1 h2 => by simp; omega)
  have hO3 : gOff nowZ G1 (gS1 G1 1 3 (nI d)) := gOff.rf.S1 rfl
  generalize gS1 G1 1 3 (nI d) = G3 at *
  have hL3 : ((Lt.of (S.now.n) (S.now.kind) (S.now.slack) (d) (S.now.m) (S.now.w) (S.now.c)) : Lt).Wf := hL.hd hL.k5 hL.s20 hd
  have hx : nI d / 65536 = nI (d / 65536) := pk_div (d := 65536) hd (by decide) (by decide)
  rw [hx]
  have hx31 : d / 65536 < 2 ^ 31 := by omega
  generalize d / 65536 = x at *
  have e0 : gS G3 1 0 = nI S.now.n := hR3.1
  rw [e0]
  unfold Lt.dr1
  by_cases h0 : S.now.n = 0
  · rw [if_pos h0, if_pos (show nI S.now.n ≤ 0 by rw [h0]; decide)]
    exact ⟨_, rfl, _, by rw [nI_1], h1.2.up hO3 hR3⟩
  · rw [if_neg h0, if_neg (nI_nle (by omega) (by omega)), gNz_nI (by omega) (by omega), gRem_nI hx31 (by omega) (by omega)]
    have hs : x % S.now.n < S.now.n := Nat.mod_lt _ (by omega)
    have hx8 : gRem (nI x / 8) 32 = nI (x / 8 % 32) := by
      rw [show (8 : Int32) = nI 8 from rfl, pk_div hx31 (by decide) (by decide), show (32 : Int32) = nI 32 from rfl, gRem_nI (by omega) (by decide) (by decide)]
    have hx256 : gRem (nI x / 256) 10 = nI (x / 256 % 10) := by
      rw [show (256 : Int32) = nI 256 from rfl, pk_div hx31 (by decide) (by decide), show (10 : Int32) = nI 10 from rfl, gRem_nI (by omega) (by decide) (by decide)]
    rw [hx8, hx256]
    have hsl : mSl G3 (x % S.now.n) (S.now.m (x % S.now.n)) (S.now.w (x % S.now.n)) (S.now.c (x % S.now.n)) := hR3.sl (i := x % S.now.n) hs
    have hm := hL.m1 _ hs
    simp (disch := omega) only [nLit, neg_nI, nI_add, pk_mul, nI_sub1, nI_clamp, gIn_t, gck_t, gLet_e, nI_leI, nI_ltJ, nI_eq, nI_nM_eq, nM_nI_eq, nM_eq, nM_nI_le, nI_nM_le, nM_nI_lt, nI_nM_lt, at_nI, gS_at, gS_ne', obind_some, iteT, iteF, ite_p, ite_n, hsl.1]
    by_cases h4 : 4 ≤ S.now.m (x % S.now.n)
    · rw [if_pos h4, if_neg (fun z => by omega)]
      exact ⟨_, rfl, _, rfl, h1.2.up hO3 hR3⟩
    · rw [if_neg h4]
      refine Ok.bind (placeOf_ok hL3 hR3 hs (show x / 8 % 32 < 2 ^ 31 by omega)) (fun r hr => ?_)
      have hr' : r = rI (fnd (S.now.w (x % S.now.n)) (x / 8 % 32) (S.now.m (x % S.now.n))) := hr
      subst hr'
      cases hf : fnd (S.now.w (x % S.now.n)) (x / 8 % 32) (S.now.m (x % S.now.n)) with
      | some j =>
        have := fnd_some _ _ hf
        rw [if_neg (show ¬ rI (some j) = nM 4 from rI_ne (by omega)), if_neg (fun z => by cases z.2)]
        exact ⟨_, rfl, _, rfl, h1.2.up hO3 hR3⟩
      | none =>
        rw [if_pos (show rI none = nM 4 from rfl), if_pos ⟨by omega, rfl⟩]
        refine Ok.bind (comes_ok (by omega) hsl (by omega)) (fun G4 h4 => ?_)
        refine ⟨_, rfl, _, rfl, h1.2.up (hO3.tr (h4.1.w (fun k j hz => by simp [nowZ] at hz ⊢; omega))) ?_⟩
        exact mRow.put hL3 hR3 h4.1 h4.2
theorem storm_ok {S : St} {G : gP} (hW : S.Wf) (h : mSt S G) (a : Int32) : Ok (f_X11_storm G a) (mA (sStorm S a)) := by
  unfold f_X11_storm sStorm
  rw [in_rg a (lo := 1) (hi := 41) rfl rfl]
  cases ha : rg a 1 41 with
  | none => exact ⟨_, rfl, h, rfl⟩
  | some n =>
    obtain ⟨hn1, hn, rfl⟩ := rg_some ha
    simp only [Option.isSome_some, if_true]
    rw [if_neg (by decide)]
    refine Ok.bind (Q := fun G1 => mSt (S.storm n) G1) ?_ (fun G1 h1 => ?_)
    · have hs0 : S.storm 0 = S := by unfold St.storm; rfl
      refine Ok.up (fun i s => s.2 = nI i ∧ mSt (S.storm i) s.1) n (by omega) ?_ ?_ ⟨rfl, by rw [hs0]; exact h⟩
      · rintro i ⟨G1, x⟩ hi ⟨hx, h1⟩
        simp only at hx h1
        subst hx
        refine (storm1_ok (hW.storm i) h1 hi (by omega)).imp ?_
        rintro r ⟨G2, rfl, h2⟩
        exact ⟨rfl, h2⟩
      · rintro ⟨G1, x⟩ ⟨hx, h1⟩
        simp only at hx h1
        subst hx
        unfold f_X11_storm_b16
        simp (disch := omega) only [nLit, neg_nI, nI_add, pk_mul, nI_sub1, nI_clamp, gIn_t, gck_t, gLet_e, nI_leI, nI_ltJ, nI_eq, nI_nM_eq, nM_nI_eq, nM_eq, nM_nI_le, nI_nM_le, nM_nI_lt, nI_nM_lt, at_nI, gS_at, gS_ne', obind_some, iteT, iteF, ite_p, ite_n]
        exact ⟨_, rfl, h1⟩
    · have hL := (hW.storm n).now
      have h8 := hL.n8
      have hR := h1.now
      refine Ok.bind (Q := fun x => x = nI (su (S.storm n).now.m (S.storm n).now.n)) ?_ (fun x hx => ⟨_, rfl, h1, hx⟩)
      refine Ok.up (fun i s => s = (nI (su (S.storm n).now.m i), nI i)) (S.storm n).now.n (by omega) ?_ ?_ rfl
      · rintro i s hi rfl
        unfold f_X11_storm_b152
        have hm := hL.m1 i hi
        simp (disch := omega) only [nLit, neg_nI, nI_add, pk_mul, nI_sub1, nI_clamp, gIn_t, gck_t, gLet_e, nI_leI, nI_ltJ, nI_eq, nI_nM_eq, nM_nI_eq, nM_eq, nM_nI_le, nI_nM_le, nM_nI_lt, nI_nM_lt, at_nI, gS_at, gS_ne', obind_some, iteT, iteF, ite_p, ite_n, hR.1, (hR.sl hi).1]
        exact ⟨_, rfl, rfl⟩
      · rintro s rfl
        unfold f_X11_storm_b152
        simp (disch := omega) only [nLit, neg_nI, nI_add, pk_mul, nI_sub1, nI_clamp, gIn_t, gck_t, gLet_e, nI_leI, nI_ltJ, nI_eq, nI_nM_eq, nM_nI_eq, nM_eq, nM_nI_le, nI_nM_le, nM_nI_lt, nI_nM_lt, at_nI, gS_at, gS_ne', obind_some, iteT, iteF, ite_p, ite_n, hR.1]
        exact ⟨_, rfl, rfl⟩
end
section
/-! the component: how its cells hold a state -/
theorem obs {α : Type} (x : Option α) : (x.bind fun q => some q) = x := by cases x <;> rfl
def sgO (G : gP) (b j : Nat) : Nat := (gR G (b + 1) j).getD 0
/-- a lattice's slots are its own eight, each once -/
def xSg (G : gP) (b : Nat) : Prop := (∀ j, j < 8 → gR G (b + 1) j = some (sgO G b j) ∧ ∃ p, p < 8 ∧ sgO G b j = b + 2 + 3 * p) ∧ ∀ i j, i < 8 → j < 8 → sgO G b i = sgO G b j → i = j
def xSlt (G : gP) (s m : Nat) (w c : Nat → Nat) : Prop := gS G s 2 = nI m ∧ ∀ j, j < m → gS G (s + 1) j = nI (w j) ∧ gS G (s + 2) j = nI (c j)
def xLt (G : gP) (b : Nat) (L : Lt) : Prop := gS G b 1 = nI L.n ∧ gS G b 2 = nI L.kind ∧ gS G b 3 = nI L.slack ∧ gS G b 4 = nI L.draw ∧ ∀ i, i < L.n → xSlt G (sgO G b i) (L.m i) (L.w i) (L.c i)
/-- no reference has changed -/
def rSame (G G' : gP) : Prop := ∀ k j, gR G' k j = gR G k j
theorem rSame.rf {G : gP} : rSame G G := fun _ _ => rfl
theorem rSame.tr {G G1 G2 : gP} (h : rSame G G1) (h2 : rSame G1 G2) : rSame G G2 := fun k j => (h2 k j).trans (h k j)
theorem rSame.S1 {G G1 : gP} {k j : Nat} {v : Int32} (h : rSame G G1) : rSame G (gS1 G1 k j v) := fun a i => h a i
theorem rSame.L1 {G G1 : gP} {k j : Nat} {v : Int64} (h : rSame G G1) : rSame G (gL1 G1 k j v) := fun a i => h a i
theorem rSame.sg {G G' : gP} (h : rSame G G') (b j : Nat) : sgO G' b j = sgO G b j := by unfold sgO; rw [h]
theorem xSg.same {G G' : gP} {b : Nat} (h : xSg G b) (hr : rSame G G') : xSg G' b := by
  refine ⟨fun j hj => ?_, fun i j hi hj => ?_⟩
  · rw [hr.sg, hr]; exact h.1 j hj
  · rw [hr.sg, hr.sg]; exact h.2 i j hi hj
theorem xT_lat {i : Nat} (hi : i < 19) (r : Nat) (hr : r < 26) : xT (32 + 26 * i + r) = xTl r := by
  unfold xT
  rw [if_neg (by omega), if_pos (by omega)]
  congr 1
  omega
theorem xTl_slot {p : Nat} : (xTl (2 + 3 * p)).1 = 7 := by
  unfold xTl
  rw [if_neg (by omega), if_neg (by omega), if_pos (by omega)]
theorem xRef_slot {i p : Nat} (hi : i < 19) (hp : p < 8) : xRef (some (32 + 26 * i + 2 + 3 * p)) 7 = some (32 + 26 * i + 2 + 3 * p) := by
  unfold xRef
  show (if 32 + 26 * i + 2 + 3 * p < 526 ∧ (xT (32 + 26 * i + 2 + 3 * p)).1 = 7 then some (32 + 26 * i + 2 + 3 * p) else none) = _
  have e : 32 + 26 * i + 2 + 3 * p = 32 + 26 * i + (2 + 3 * p) := by omega
  rw [if_pos ⟨by omega, by rw [e, xT_lat hi _ (by omega), xTl_slot]⟩]
theorem xRef_lat {i : Nat} (hi : i < 19) : xRef (some (32 + 26 * i)) 6 = some (32 + 26 * i) := by
  unfold xRef
  show (if 32 + 26 * i < 526 ∧ (xT (32 + 26 * i)).1 = 6 then some (32 + 26 * i) else none) = _
  rw [if_pos ⟨by omega, by rw [show 32 + 26 * i = 32 + 26 * i + 0 from rfl, xT_lat hi 0 (by omega)]; rfl⟩]
theorem xSg.ref {G : gP} {i j : Nat} (hi : i < 19) (h : xSg G (32 + 26 * i)) (hj : j < 8) : xRef (gR G (32 + 26 * i + 1) j) 7 = some (sgO G (32 + 26 * i) j) := by
  obtain ⟨h1, p, hp, h2⟩ := h.1 j hj
  rw [h1, h2]
  exact xRef_slot hi hp
theorem xSg.ref0 {G : gP} {j : Nat} (h : xSg G 32) (hj : j < 8) : xRef (gR G 33 j) 7 = some (sgO G 32 j) := xSg.ref (i := 0) (by decide) h hj
theorem xSg.rng {G : gP} {b j : Nat} (h : xSg G b) (hj : j < 8) : b + 2 ≤ sgO G b j ∧ sgO G b j + 2 < b + 26 ∧ (sgO G b j - b) % 3 = 2 := by
  obtain ⟨-, p, hp, h2⟩ := h.1 j hj
  omega
theorem xSlt.off {Z : Nat → Nat → Bool} {G G' : gP} {s m : Nat} {w c : Nat → Nat} (h : xSlt G s m w c) (hO : gOff Z G G') (hz : ∀ k j, s ≤ k → k ≤ s + 2 → Z k j = false) : xSlt G' s m w c := by
  refine ⟨by rw [(hO s 2 (hz _ _ (by omega) (by omega))).1]; exact h.1, fun j hj => ⟨?_, ?_⟩⟩
  · rw [(hO (s + 1) j (hz _ _ (by omega) (by omega))).1]; exact (h.2 j hj).1
  · rw [(hO (s + 2) j (hz _ _ (by omega) (by omega))).1]; exact (h.2 j hj).2
theorem xLt.off {Z : Nat → Nat → Bool} {G G' : gP} {b : Nat} {L : Lt} (h : xLt G b L) (h8 : L.n ≤ 8) (hg : xSg G b) (hO : gOff Z G G') (hr : rSame G G') (hz : ∀ k j, b ≤ k → k < b + 26 → Z k j = false) : xLt G' b L := by
  obtain ⟨h1, h2, h3, h4, h5⟩ := h
  refine ⟨?_, ?_, ?_, ?_, fun i hi => ?_⟩
  · rw [(hO b 1 (hz _ _ (by omega) (by omega))).1]; exact h1
  · rw [(hO b 2 (hz _ _ (by omega) (by omega))).1]; exact h2
  · rw [(hO b 3 (hz _ _ (by omega) (by omega))).1]; exact h3
  · rw [(hO b 4 (hz _ _ (by omega) (by omega))).1]; exact h4
  · rw [hr.sg]
    have := hg.rng (j := i) (by omega)
    exact (h5 i hi).off hO (fun k j a b => hz k j (by omega) (by omega))
theorem gS_Sc (G : gP) (a sp b dp n k j : Nat) : gS (gSc G a sp b dp n) k j = if k = b ∧ dp ≤ j ∧ j < dp + n then gS G a (sp + (j - dp)) else gS G k j := by
  unfold gS gSc va_up va_cpy
  by_cases h : k = b
  · subst h
    simp
  · simp [h]
theorem gS_Sc_in {G : gP} {a sp b dp n k j : Nat} (h : k = b) (h1 : dp ≤ j) (h2 : j < dp + n) : gS (gSc G a sp b dp n) k j = gS G a (sp + (j - dp)) := by rw [gS_Sc, if_pos ⟨h, h1, h2⟩]
theorem gS_Sc_ne {G : gP} {a sp b dp n k j : Nat} (h : k ≠ b) : gS (gSc G a sp b dp n) k j = gS G k j := by rw [gS_Sc, if_neg (fun z => h z.1)]
theorem rSame.Sc {G G1 : gP} {a sp b dp n : Nat} (h : rSame G G1) : rSame G (gSc G1 a sp b dp n) := fun a i => h a i
theorem gOff.Sc {Z : Nat → Nat → Bool} {G G1 : gP} (h : gOff Z G G1) {a sp b dp n : Nat} (hz : ∀ j, dp ≤ j → j < dp + n → Z b j = true) : gOff Z G (gSc G1 a sp b dp n) := fun k j z => by
  refine ⟨?_, (h k j z).2.1, (h k j z).2.2⟩
  rw [gS_Sc, if_neg (fun q => by obtain ⟨rfl, h1, h2⟩ := q; rw [hz j h1 h2] at z; cases z)]
  exact (h k j z).1
theorem gS_Sa (G : gP) (k : Nat) (f : Nat → Int32) (a j : Nat) : gS (gSa G k f) a j = if a = k then f j else gS G a j := by
  unfold gS gSa va_up
  by_cases h : a = k
  · subst h; simp
  · simp [h]
theorem gS_La (G : gP) (k : Nat) (f : Nat → Int64) (a j : Nat) : gS (gLa G k f) a j = gS G a j := rfl
theorem gL_La (G : gP) (k : Nat) (f : Nat → Int64) (a j : Nat) : gL (gLa G k f) a j = if a = k then f j else gL G a j := by
  unfold gL gLa va_up
  by_cases h : a = k
  · subst h; simp
  · simp [h]
theorem gL_Sa (G : gP) (k : Nat) (f : Nat → Int32) (a j : Nat) : gL (gSa G k f) a j = gL G a j := rfl
theorem rSame.Sa {G G1 : gP} {k : Nat} {f : Nat → Int32} (h : rSame G G1) : rSame G (gSa G1 k f) := fun a i => h a i
theorem rSame.La {G G1 : gP} {k : Nat} {f : Nat → Int64} (h : rSame G G1) : rSame G (gLa G1 k f) := fun a i => h a i
theorem gOff.Sa {Z : Nat → Nat → Bool} {G G1 : gP} (h : gOff Z G G1) {k : Nat} {f : Nat → Int32} (hz : ∀ j, Z k j = true) : gOff Z G (gSa G1 k f) := fun a j z => by
  refine ⟨?_, (h a j z).2.1, (h a j z).2.2⟩
  rw [gS_Sa, if_neg (fun q => by subst q; rw [hz j] at z; cases z)]
  exact (h a j z).1
theorem gOff.La {Z : Nat → Nat → Bool} {G G1 : gP} (h : gOff Z G G1) {k : Nat} {f : Nat → Int64} (hz : ∀ j, Z k j = true) : gOff Z G (gLa G1 k f) := fun a j z => by
  refine ⟨(h a j z).1, ?_, (h a j z).2.2⟩
  rw [gL_La, if_neg (fun q => by subst q; rw [hz j] at z; cases z)]
  exact (h a j z).2.1
theorem xRk.same {G G' : gP} (h : xRk G) (hr : rSame G G') : xRk G' := fun k j n e => h k j n (by rw [← hr k j]; exact e)
theorem gDec_t {p : Prop} (h : p) : gDec p = true := by unfold gDec; exact @decide_eq_true p (Classical.propDecidable p) h
/-- isIn is the Model's in -/
theorem isIn_in : f_X0_isIn = f_X11_in := rfl
theorem isIn_rg (a : Int32) {x y : Int64} {lo hi : Nat} (hx : x.toInt = (lo : Int)) (hy : y.toInt = (hi : Int) - 1) : f_X0_isIn a.toInt64 x y = if (rg a lo hi).isSome then 1 else 0 := in_rg a hx hy
theorem xisSlot_rg {G : gP} {n : Nat} (hn : n ≤ 8) (h : gS G 32 1 = nI n) (a : Int32) : f_X0_isSlot G a = if (rg a 0 n).isSome then 1 else 0 := by
  unfold f_X0_isSlot
  rw [h]
  exact isIn_rg a (lo := 0) rfl (nI1_toInt64 (by omega))
theorem bI_t : bI true = 1 := rfl
theorem bI_f : bI false = 0 := rfl
theorem bI_1 (b : Bool) : bI b = 1 ↔ b = true := by cases b <;> decide
end
section
/-! the ears -/
def xEr (G : gP) (k : Nat) (e : Er) : Prop := gS G k 0 = nI e.1 ∧ gS G k 1 = nI e.2.1 ∧ gS G k 2 = nI e.2.2.1 ∧ gS G k 3 = nI e.2.2.2.2.length ∧ gS G k 4 = bI e.2.2.2.1
/-- how far an ear behind so many words may be -/
def eG (e : Er) (k : Nat) : Prop := e.1 < 7 ∧ e.2.2.2.2.length + (if e.1 = 0 then 0 else 1) ≤ k
theorem eEnd_iff (e : Er) : eEnd e = true ↔ e.1 ≠ 0 ∧ e.1 ≠ 5 := by unfold eEnd; simp
theorem eStep_G {e e' : Er} {w k : Nat} (h : eG e k) (hs : eStep e w = some e') : eG e' (k + 1) ∧ e.2.2.2.2 <+: e'.2.2.2.2 := by
  obtain ⟨ph, sm, gr, th, ns⟩ := e
  obtain ⟨h1, h2⟩ := h
  simp only at h1 h2
  unfold eStep at hs
  simp only at hs
  by_cases w0 : w = 0
  · rw [if_pos w0] at hs; cases hs
    exact ⟨⟨h1, by simp only; omega⟩, List.prefix_rfl⟩
  rw [if_neg w0] at hs
  by_cases w28 : w = 28
  · rw [if_pos w28] at hs
    by_cases hp : ph = 1
    · rw [if_pos hp] at hs; cases hs
      rw [hp, if_neg (by decide)] at h2
      exact ⟨⟨by simp only; omega, by simp only; split <;> omega⟩, List.prefix_rfl⟩
    · rw [if_neg hp] at hs; cases hs
  rw [if_neg w28] at hs
  have hle : ns.length ≤ k := by omega
  by_cases w29 : w = 29
  · rw [if_pos w29] at hs
    split at hs
    · cases hs
      exact ⟨⟨by simp only; omega, by simp only; split <;> omega⟩, List.prefix_rfl⟩
    · cases hs
  rw [if_neg w29] at hs
  by_cases w30 : w = 30
  · rw [if_pos w30] at hs
    split at hs
    · cases hs
      exact ⟨⟨by simp only; omega, by simp only; split <;> omega⟩, List.prefix_rfl⟩
    · cases hs
  rw [if_neg w30] at hs
  by_cases w31 : w = 31
  · rw [if_pos w31] at hs
    split at hs
    · rename_i he
      have he' := ((eEnd_iff _).mp he).1
      simp only at he'
      rw [if_neg he'] at h2
      cases hs
      exact ⟨⟨by simp only; omega, by simp only [if_true, List.length_append, List.length_singleton]; omega⟩, List.prefix_append _ _⟩
    · cases hs
  rw [if_neg w31] at hs
  split at hs
  · cases hs
    refine ⟨⟨?_, ?_⟩, List.prefix_rfl⟩
    · simp only; split
      · decide
      · split <;> decide
    · simp only
      have : ∀ x : Nat, (if x = 0 then 0 else 1) ≤ 1 := fun x => by split <;> omega
      have := this (if (ph = 0 ∨ ph = 6) ∧ eU w = true then 1 else if 20 ≤ w then 2 else 3)
      omega
  · cases hs
theorem xEr.off {Z : Nat → Nat → Bool} {G G' : gP} {k : Nat} {e : Er} (h : xEr G k e) (hO : gOff Z G G') (hz : ∀ j, Z k j = false) : xEr G' k e := by
  obtain ⟨a, b, c, d, f⟩ := h
  refine ⟨?_, ?_, ?_, ?_, ?_⟩
  · rw [(hO k _ (hz _)).1]; exact a
  · rw [(hO k _ (hz _)).1]; exact b
  · rw [(hO k _ (hz _)).1]; exact c
  · rw [(hO k _ (hz _)).1]; exact d
  · rw [(hO k _ (hz _)).1]; exact f
theorem beg_ok (G : gP) (k : Nat) : Ok (f_X10_begin G k) (fun G' => gOff (fun a _ => decide (a = k)) G G' ∧ rSame G G' ∧ xEr G' k e0) := by
  unfold f_X10_begin
  simp only [gLet]
  refine ⟨_, rfl, ((((gOff.rf.S1 ?_).S1 ?_).S1 ?_).S1 ?_).S1 ?_, ((((rSame.rf.S1).S1).S1).S1).S1, ?_, ?_, ?_, ?_, ?_⟩
  · simp
  · simp
  · simp
  · simp
  · simp
  all_goals (simp only [gS_S1]; simp (config := { decide := true }) only [true_and, if_false, if_true]; try rfl)
theorem takeFrom_ok {G : gP} {k a : Nat} {e : Er} (h : xEr G a e) (hne : a ≠ k) : Ok (f_X10_takeFrom G k a) (fun G' => gOff (fun x _ => decide (x = k)) G G' ∧ rSame G G' ∧ xEr G' k e) := by
  obtain ⟨h0, h1, h2, h3, h4⟩ := h
  unfold f_X10_takeFrom
  simp only [gLet_e]
  have n : ∀ (X : gP) (i j : Nat) (v : Int32), gS (gS1 X k i v) a j = gS X a j := fun X i j v => gS_ne (fun z => hne z.1)
  simp only [n, h0, h1, h2, h3, h4, bI_Z, gck_t]
  refine ⟨_, rfl, ((((gOff.rf.S1 ?_).S1 ?_).S1 ?_).S1 ?_).S1 ?_, ((((rSame.rf.S1).S1).S1).S1).S1, ?_, ?_, ?_, ?_, ?_⟩
  · simp
  · simp
  · simp
  · simp
  · simp
  all_goals (simp only [gS_S1]; simp (config := { decide := true }) only [true_and, if_false, if_true])
theorem goOn_ok (G : gP) (k : Nat) (b : Bool) (p v : Int32) : f_X10_goOn G k (bI b) p v = some (if b = true then gS1 (gS1 G k 0 p) k 1 v else G, bI b) := by
  cases b
  · unfold f_X10_goOn
    rw [if_pos (by decide)]
    rfl
  · unfold f_X10_goOn
    rw [if_neg (by decide)]
    rfl
theorem unit_I {w : Nat} (h : w < 32) : f_X0_isUnit (nI w) = bI (eU w) := by
  unfold f_X0_isUnit
  rw [isIn_in, in_nI (by omega) 1 9 1 9 rfl rfl]
  by_cases h1 : 1 ≤ w ∧ w ≤ 9
  · rw [if_pos h1, (eU_iff w).mpr h1]; rfl
  · rw [if_neg h1]
    cases he : eU w
    · rfl
    · exact (h1 ((eU_iff w).mp he)).elim
theorem worth_I {w : Nat} (h0 : 0 < w) (h : w < 28) : xWorth w = nI (wo w) := by
  unfold xWorth wo
  by_cases h1 : w < 20
  · rw [if_pos h1, if_pos h1]
  · rw [if_neg h1, if_neg h1, if_pos h, if_pos h]
    apply nI_inj
    omega
theorem ite_I {a b : Nat} (ha : a < 2 ^ 31) (hb : b < 2 ^ 31) : (if nI a = nI b then (1 : Int32) else 0) = bI (decide (a = b)) := by
  by_cases h : a = b
  · rw [if_pos (nI_inj h), decide_eq_true h]; rfl
  · rw [if_neg (fun z => h ((nI_eq ha hb).mp z)), decide_eq_false h]; rfl
theorem mayEnd_I {G : gP} {k : Nat} {e : Er} (h : xEr G k e) (hp : e.1 < 7) : f_X10_mayEnd G k = bI (eEnd e) := by
  unfold f_X10_mayEnd
  rw [h.1]
  by_cases h0 : e.1 = 0
  · rw [h0, if_pos (show nI 0 = 0 from rfl)]
    have : eEnd e = false := by unfold eEnd; simp [h0]
    rw [this]; rfl
  · rw [if_neg (nI_ne0 (by omega) (by omega))]
    by_cases h5 : e.1 = 5
    · rw [h5, if_pos (show nI 5 = 5 from rfl)]
      have : eEnd e = false := by unfold eEnd; simp [h5]
      rw [this]; rfl
    · rw [if_neg (show ¬ nI e.1 = 5 from fun z => h5 ((nI_eq (b := 5) (by omega) (by decide)).mp z)), (eEnd_iff e).mpr ⟨h0, h5⟩]; rfl
/-- what an ear does with a word -/
def hrP (G : gP) (k : Nat) (e : Er) (w : Nat) (q : gP × Int32) : Prop :=
  gOff (fun a j => decide (a = k ∨ (a = 2 ∧ e.2.2.2.2.length ≤ j))) G q.1 ∧ rSame G q.1 ∧
  (match eStep e w with
   | none => q.2 = 0
   | some e' => q.2 = 1 ∧ xEr q.1 k e' ∧ aL q.1 2 0 e'.2.2.2.2)
theorem goOn_P {G G0 : gP} {k : Nat} {e : Er} {w : Nat} {b : Bool} {p v : Nat} (h3 : gS G k 3 = nI e.2.2.2.2.length) (hk : k ≠ 2) (ha : aL G 2 0 e.2.2.2.2) (hO : gOff (fun a j => decide (a = k ∨ (a = 2 ∧ e.2.2.2.2.length ≤ j))) G0 G) (hr : rSame G0 G) {g : Nat} {t : Bool} (hg : b = true → gS G k 2 = nI g ∧ gS G k 4 = bI t) (hs : eStep e w = if b = true then some ⟨p, v, g, t, e.2.2.2.2⟩ else none) :
    Ok ((f_X10_goOn G k (bI b) (nI p) (nI v)).bind fun q => some (q.1, q.2)) (hrP G0 k e w) := by
  rw [goOn_ok]
  refine ⟨_, rfl, ?_⟩
  unfold hrP
  rw [hs]
  cases b
  · exact ⟨hO, hr, rfl⟩
  · obtain ⟨g1, g2⟩ := hg rfl
    simp only [if_true]
    refine ⟨(hO.S1 (by simp)).S1 (by simp), (hr.S1).S1, rfl, ⟨?_, ?_, ?_, ?_, ?_⟩, ?_⟩
    · rw [gS_ne (by omega), gS_at]
    · rw [gS_at]
    · rw [gS_ne (by omega), gS_ne (by omega)]; exact g1
    · rw [gS_ne (by omega), gS_ne (by omega)]; exact h3
    · rw [gS_ne (by omega), gS_ne (by omega)]; exact g2
    · exact (ha.S1 (Or.inl hk)).S1 (Or.inl hk)
theorem end_ok {G : gP} {k : Nat} {e : Er} (h : xEr G k e) (hk : k ≠ 2) (ha : aL G 2 0 e.2.2.2.2) (h8 : e.2.2.2.2.length < 8) : Ok (f_X10_end G k) (fun G' => gOff (fun a j => decide (a = k ∨ (a = 2 ∧ e.2.2.2.2.length ≤ j))) G G' ∧ rSame G G' ∧ xEr G' k ⟨0, 0, 0, false, e.2.2.2.2 ++ [e.2.2.1 + e.2.1]⟩ ∧ aL G' 2 0 (e.2.2.2.2 ++ [e.2.2.1 + e.2.1])) := by
  obtain ⟨ph, sm, gr, th, ns⟩ := e
  obtain ⟨h0, h1, h2, h3, h4⟩ := h
  simp only at h0 h1 h2 h3 h4 ha h8 ⊢
  unfold f_X10_end
  have n : ∀ (X : gP) (i j : Nat) (v : Int32), gS (gS1 X 2 i v) k j = gS X k j := fun X i j v => gS_ne (fun z => hk z.1)
  rw [h3, gIn_t (by omega) (by omega), gck_t]
  simp only [gLet_e, n, h3, nI_clamp (show ns.length < 2 ^ 31 by omega)]
  rw [h1, h2, nI_add]
  refine ⟨_, rfl, (((((gOff.rf.S1 ?_).S1 ?_).S1 ?_).S1 ?_).S1 ?_).S1 ?_, (((((rSame.rf.S1).S1).S1).S1).S1).S1, ⟨?_, ?_, ?_, ?_, ?_⟩, ?_⟩
  · simp
  · simp
  · simp
  · simp
  · simp
  · simp
  · simp only [gS_S1]; simp (config := { decide := true }) only [true_and, if_false, if_true]; try rfl
  · simp only [gS_S1]; simp (config := { decide := true }) only [true_and, if_false, if_true]; try rfl
  · simp only [gS_S1]; simp (config := { decide := true }) only [true_and, if_false, if_true]; try rfl
  · simp only [gS_S1]; simp (config := { decide := true }) only [true_and, if_false, if_true]
    rw [nI_1, List.length_append, List.length_singleton]
  · simp only [gS_S1]; simp (config := { decide := true }) only [true_and, if_false, if_true]; try rfl
  · have := ha.push (v := gr + sm)
    rw [Nat.zero_add] at this
    exact ((((this.S1 (Or.inl hk)).S1 (Or.inl hk)).S1 (Or.inl hk)).S1 (Or.inl hk)).S1 (Or.inl hk)
theorem low_hear {G : gP} {k w : Nat} {e : Er} (h : xEr G k e) (hk : k ≠ 2) (ha : aL G 2 0 e.2.2.2.2) (hp : e.1 < 7) (h0 : 0 < w) (hw : w < 28) : Ok (f_X10_hearLow G k (nI w)) (hrP G k e w) := by
  obtain ⟨ph, sm, gr, th, ns⟩ := e
  have hx := h
  obtain ⟨x0, x1, x2, x3, x4⟩ := h
  simp only at x0 x1 x2 x3 x4 ha hp
  unfold f_X10_hearLow
  simp only [gLet_e]
  rw [gIn_t (by omega) (by omega), gck_t, unit_I (by omega), nI_clamp (by omega), worth_I h0 hw, x0, x1, nI_add]
  have e1 : (if nI ph = 0 then (1 : Int32) else if nI ph = 6 then (1 : Int32) else 0) = bI (decide (ph = 0 ∨ ph = 6)) := by
    by_cases a : ph = 0
    · subst a; rfl
    · rw [if_neg (nI_ne0 (by omega) (by omega))]
      by_cases b : ph = 6
      · subst b; rfl
      · rw [if_neg (show ¬ nI ph = 6 from fun z => b ((nI_eq (b := 6) (by omega) (by decide)).mp z)), decide_eq_false (by omega)]; rfl
  rw [e1]
  have e2 : (if bI (decide (ph = 0 ∨ ph = 6)) = 0 then if nI ph = 4 then (1 : Int32) else if nI ph = 5 then (1 : Int32) else if nI ph = 2 then if bI (eU w) = 0 then (0 : Int32) else 1 else 0 else 1) = bI (decide (ph = 0 ∨ ph = 6 ∨ ph = 4 ∨ ph = 5 ∨ (ph = 2 ∧ eU w = true))) := by
    have hc : ph = 0 ∨ ph = 1 ∨ ph = 2 ∨ ph = 3 ∨ ph = 4 ∨ ph = 5 ∨ ph = 6 := by omega
    rcases hc with rfl | rfl | rfl | rfl | rfl | rfl | rfl <;> cases eU w <;> decide
  rw [e2]
  have e3 : (if bI (decide (ph = 0 ∨ ph = 6)) = 0 then if nI w < 20 then (3 : Int32) else 2 else if bI (eU w) = 0 then if nI w < 20 then (3 : Int32) else 2 else 1) = nI (if (ph = 0 ∨ ph = 6) ∧ eU w = true then 1 else if 20 ≤ w then 2 else 3) := by
    have h20 : (if nI w < 20 then (3 : Int32) else 2) = nI (if 20 ≤ w then 2 else 3) := by
      by_cases a : 20 ≤ w
      · rw [if_neg (show ¬ nI w < 20 from fun z => by have := (nI_ltI (b := 20) (by omega) (by decide)).mp z; omega), if_pos a]; rfl
      · rw [if_pos (show nI w < 20 from (nI_ltI (b := 20) (by omega) (by decide)).mpr (by omega)), if_neg a]; rfl
    rw [h20]
    by_cases a : ph = 0 ∨ ph = 6
    · rw [decide_eq_true a, if_neg (by decide)]
      cases hu : eU w
      · rw [if_pos (show bI false = 0 from rfl), if_neg (show ¬ ((ph = 0 ∨ ph = 6) ∧ false = true) from fun z => by cases z.2)]
      · rw [if_neg (show ¬ bI true = 0 by decide), if_pos (show (ph = 0 ∨ ph = 6) ∧ true = true from ⟨a, rfl⟩)]; rfl
    · rw [decide_eq_false a, if_pos (show bI false = 0 from rfl), if_neg (show ¬ ((ph = 0 ∨ ph = 6) ∧ eU w = true) from fun z => a z.1)]
  rw [e3]
  refine goOn_P (e := ⟨ph, sm, gr, th, ns⟩) (g := gr) (t := th) x3 hk ha gOff.rf rSame.rf (fun _ => ⟨x2, x4⟩) ?_
  unfold eStep
  simp only
  rw [if_neg (by omega), if_neg (by omega), if_neg (by omega), if_neg (by omega), if_neg (by omega)]
  by_cases hc : ph = 0 ∨ ph = 6 ∨ ph = 4 ∨ ph = 5 ∨ (ph = 2 ∧ eU w = true)
  · rw [if_pos hc, decide_eq_true hc, if_pos rfl]
  · rw [if_neg hc, decide_eq_false hc, if_neg (by decide)]
theorem hear_w {G : gP} {k w : Nat} {e : Er} (h : xEr G k e) (hk : k ≠ 2) (ha : aL G 2 0 e.2.2.2.2) {i : Nat} (hi : i ≤ 8) (hG : eG e i) (hw : w < 32) : Ok (f_X10_hear G k (nI w)) (hrP G k e w) := by
  obtain ⟨hp, hl⟩ := hG
  have keq : ∀ a : Nat, a < 2 ^ 31 → (nI w = nI a ↔ w = a) := fun a ha => nI_eq (by omega) ha
  unfold f_X10_hear
  rw [nI_lit 28, nI_lit 29, nI_lit 30, nI_lit 31]
  by_cases w0 : w = 0
  · subst w0
    rw [if_pos (show nI 0 = 0 from rfl)]
    refine ⟨_, rfl, gOff.rf, rSame.rf, ?_⟩
    have : eStep e 0 = some e := by unfold eStep; rw [if_pos rfl]
    rw [this]
    exact ⟨rfl, h, ha⟩
  rw [if_neg (nI_ne0 (by omega) (by omega))]
  by_cases w28 : w = 28
  · rw [if_pos ((keq 28 (by decide)).mpr w28)]
    simp only [gLet_e]
    rw [h.1, h.2.1, show xWorth 28 = nI 100 from rfl, pk_mul]
    have e1 : (if nI e.1 = 1 then (1 : Int32) else 0) = bI (decide (e.1 = 1)) := ite_I (a := e.1) (b := 1) (by omega) (by decide)
    rw [e1]
    refine goOn_P (p := 4) (g := e.2.2.1) (t := e.2.2.2.1) h.2.2.2.1 hk ha gOff.rf rSame.rf (fun _ => ⟨h.2.2.1, h.2.2.2.2⟩) ?_
    unfold eStep
    rw [if_neg w0, if_pos w28]
    by_cases c : e.1 = 1
    · rw [if_pos c, decide_eq_true c, if_pos rfl]
    · rw [if_neg c, decide_eq_false c, if_neg (by decide)]
  rw [if_neg (fun z => w28 ((keq 28 (by decide)).mp z))]
  by_cases w29 : w = 29
  · rw [if_pos ((keq 29 (by decide)).mpr w29)]
    refine Ok.bind (Q := hrP G k e w) ?_ (fun q hq => ⟨_, rfl, hq⟩)
    unfold f_X10_hearThousand
    simp only [gLet_e]
    rw [mayEnd_I h hp, h.2.2.2.2, h.2.1, show xWorth 29 = nI 1000 from rfl, pk_mul]
    have e1 : (if bI (eEnd e) = 0 then (0 : Int32) else if bI e.2.2.2.1 = 0 then (1 : Int32) else 0) = bI (eEnd e && !e.2.2.2.1) := by
      cases eEnd e <;> cases e.2.2.2.1 <;> decide
    rw [e1]
    have hst : eStep e w = if (eEnd e && !e.2.2.2.1) = true then some ⟨6, 0, e.2.1 * 1000, true, e.2.2.2.2⟩ else none := by
      unfold eStep
      rw [if_neg w0, if_neg w28, if_pos w29]
    cases hb : (eEnd e && !e.2.2.2.1)
    · rw [hb] at hst
      rw [if_pos (show bI false = 0 from rfl)]
      exact goOn_P (p := 6) (v := 0) (g := 0) (t := false) h.2.2.2.1 hk ha gOff.rf rSame.rf (fun z => by cases z) (by rw [hst]; rfl)
    · rw [hb] at hst
      rw [if_neg (show ¬ bI true = 0 by decide)]
      refine goOn_P (p := 6) (v := 0) (g := e.2.1 * 1000) (t := true) ?_ hk ?_ ?_ ((rSame.rf.S1).S1) (fun _ => ⟨?_, gS_at⟩) hst
      · rw [gS_ne (by omega), gS_ne (by omega)]; exact h.2.2.2.1
      · exact (ha.S1 (Or.inl hk)).S1 (Or.inl hk)
      · exact (gOff.rf.S1 (by simp)).S1 (by simp)
      · rw [gS_ne (by omega), gS_at]
  rw [if_neg (fun z => w29 ((keq 29 (by decide)).mp z))]
  by_cases w30 : w = 30
  · rw [if_pos ((keq 30 (by decide)).mpr w30)]
    simp only [gLet_e]
    rw [h.1, h.2.1]
    have e1 : (if nI e.1 = 4 then (1 : Int32) else if nI e.1 = 6 then (1 : Int32) else 0) = bI (decide (e.1 = 4 ∨ e.1 = 6)) := by
      by_cases a : e.1 = 4
      · rw [a]; rfl
      · rw [if_neg (show ¬ nI e.1 = 4 from fun z => a ((nI_eq (b := 4) (by omega) (by decide)).mp z))]
        by_cases b : e.1 = 6
        · rw [b]; rfl
        · rw [if_neg (show ¬ nI e.1 = 6 from fun z => b ((nI_eq (b := 6) (by omega) (by decide)).mp z)), decide_eq_false (by omega)]; rfl
    rw [e1]
    refine goOn_P (p := 5) (g := e.2.2.1) (t := e.2.2.2.1) h.2.2.2.1 hk ha gOff.rf rSame.rf (fun _ => ⟨h.2.2.1, h.2.2.2.2⟩) ?_
    unfold eStep
    rw [if_neg w0, if_neg w28, if_neg w29, if_pos w30]
    by_cases c : e.1 = 4 ∨ e.1 = 6
    · rw [if_pos c, decide_eq_true c, if_pos rfl]
    · rw [if_neg c, decide_eq_false c, if_neg (by decide)]
  rw [if_neg (fun z => w30 ((keq 30 (by decide)).mp z))]
  by_cases w31 : w = 31
  · rw [if_pos ((keq 31 (by decide)).mpr w31)]
    unfold f_X10_hearStop
    rw [mayEnd_I h hp]
    simp only [gLet_e]
    have hst : eStep e w = if eEnd e = true then some ⟨0, 0, 0, false, e.2.2.2.2 ++ [e.2.2.1 + e.2.1]⟩ else none := by
      unfold eStep
      rw [if_neg w0, if_neg w28, if_neg w29, if_neg w30, if_pos w31]
    cases hb : eEnd e
    · rw [hb] at hst
      rw [if_pos (by decide)]
      refine ⟨(G, 0), rfl, gOff.rf, rSame.rf, ?_⟩
      rw [hst]; rfl
    · rw [hb, if_pos rfl] at hst
      rw [if_neg (by decide)]
      have hne := ((eEnd_iff e).mp hb).1
      rw [if_neg hne] at hl
      refine Ok.bind (Q := fun q => hrP G k e w q) ?_ (fun q hq => ⟨_, rfl, hq⟩)
      refine Ok.bind (end_ok h hk ha (by omega)) (fun G1 h1 => ?_)
      refine ⟨(G1, 1), rfl, h1.1, h1.2.1, ?_⟩
      rw [hst]
      exact ⟨rfl, h1.2.2.1, h1.2.2.2⟩
  rw [if_neg (fun z => w31 ((keq 31 (by decide)).mp z))]
  refine Ok.bind (low_hear h hk ha hp (by omega) (by omega)) (fun q hq => ⟨_, rfl, hq⟩)
end
section
/-! readings one behind the other: what the first slots tell -/
theorem lQ_app (m : Nat → Nat) : ∀ a i b, lQ m i (a + b) = lQ m i a * lQ m (i + a) b := by
  intro a
  induction a with
  | zero => intro i b; rw [Nat.zero_add, Nat.add_zero]; show _ = 1 * _; rw [Nat.one_mul]
  | succ a ih =>
    intro i b
    have e : a + 1 + b = (a + b) + 1 := by omega
    rw [e]
    show m i * lQ m (i + 1) (a + b) = m i * lQ m (i + 1) a * lQ m (i + (a + 1)) b
    rw [ih (i + 1) b, Nat.mul_assoc]
    have e2 : i + 1 + a = i + (a + 1) := by omega
    rw [e2]
theorem Lt.P_app (L : Lt) {i k : Nat} (h : i ≤ k) (hk : k ≤ L.n) : L.P i = lQ L.m i (k - i) * L.P k := by
  unfold Lt.P
  have e : L.n - i = (k - i) + (L.n - k) := by omega
  rw [e, lQ_app]
  have e2 : i + (k - i) = k := by omega
  rw [e2]
/-- the first picks are told by the number of the rest's block -/
theorem Lt.pk_pre (L : Lt) {r r' k : Nat} (hk : k ≤ L.n) (h : r / L.P k = r' / L.P k) {i : Nat} (hi : i < k) : L.pk r i = L.pk r' i := by
  unfold Lt.pk
  rw [L.P_app (show i + 1 ≤ k by omega) hk, Nat.mul_comm, ← Nat.div_div_eq_div_mul, ← Nat.div_div_eq_div_mul, h]
theorem Lt.cs_pre (L : Lt) {p p' : Nat → Nat} : ∀ k, (∀ i, i < k → p i = p' i) → L.cs p k = L.cs p' k := by
  intro k
  induction k with
  | zero => intro _; rfl
  | succ k ih =>
    intro h
    show L.cs p k + L.c k (p k) = L.cs p' k + L.c k (p' k)
    rw [ih (fun i hi => h i (by omega)), h k (by omega)]
/-- the ear behind the first words -/
def Lt.er (L : Lt) (r : Nat) : Nat → Option Er
  | 0 => some e0
  | k + 1 => (L.er r k).bind fun e => eStep e (L.w k (L.pk r k))
theorem Lt.er_pre (L : Lt) {r r' : Nat} : ∀ k, k ≤ L.n → (∀ i, i < k → L.pk r i = L.pk r' i) → L.er r k = L.er r' k := by
  intro k
  induction k with
  | zero => intro _ _; rfl
  | succ k ih =>
    intro hk h
    unfold Lt.er
    rw [ih (by omega) (fun i hi => h i (by omega)), h k (by omega)]
theorem Lt.er_run (L : Lt) (r : Nat) : ∀ k t, eRun e0 (L.wl (L.pk r) k ++ t) = (L.er r k).bind fun e => eRun e t := by
  intro k
  induction k with
  | zero => intro t; rfl
  | succ k ih =>
    intro t
    rw [L.wl_s, List.append_assoc, ih]
    show _ = ((L.er r k).bind fun e => eStep e (L.w k (L.pk r k))).bind fun e => eRun e t
    cases L.er r k with
    | none => rfl
    | some e => rfl
theorem Lt.ev_er (L : Lt) (r : Nat) : L.ev r = (L.er r L.n).bind eFin := by
  have h := L.er_run r L.n []
  rw [List.append_nil] at h
  exact h
theorem Lt.er_none (L : Lt) {r : Nat} : ∀ d k, L.er r k = none → L.er r (k + d) = none := by
  intro d
  induction d with
  | zero => intro k h; exact h
  | succ d ih =>
    intro k h
    show ((L.er r (k + d)).bind _) = none
    rw [ih k h]
    rfl
theorem Lt.er_G (L : Lt) (r : Nat) : ∀ k e, L.er r k = some e → eG e k := by
  intro k
  induction k with
  | zero => intro e h; cases h; exact ⟨by decide, by decide⟩
  | succ k ih =>
    intro e h
    unfold Lt.er at h
    cases he : L.er r k with
    | none => rw [he] at h; cases h
    | some e1 =>
      rw [he] at h
      exact (eStep_G (ih e1 he) h).1
/-- what the walk itself writes; what a listener may write -/
def wZ (k j : Nat) : Bool := decide (k = 2 ∨ k = 4 ∨ (19 ≤ k ∧ k ≤ 27) ∨ (k = 0 ∧ j = 5))
def liZ (k _ : Nat) : Bool := decide (k = 5 ∨ k = 6 ∨ k = 7 ∨ k = 10 ∨ (526 ≤ k ∧ k < 539))
def xwZ (i l : Nat) (k j : Nat) : Bool := decide ((k = 2 ∧ l ≤ j) ∨ (k = 4 ∧ i ≤ j) ∨ (19 + i < k ∧ k ≤ 27) ∨ (k = 0 ∧ j = 5)) || liZ k j
def cqZ (k j : Nat) : Bool := wZ k j || liZ k j
def xNow (G : gP) (L : Lt) : Prop := xLt G 32 L ∧ xSg G 32
theorem xNow.q {Z : Nat → Nat → Bool} {G G' : gP} {L : Lt} (h : xNow G L) (hL : L.Wf) (hO : gOff Z G G') (hr : rSame G G') (hz : ∀ k j, 32 ≤ k → k < 58 → Z k j = false) : xNow G' L :=
  ⟨h.1.off hL.n8 h.2 hO hr (fun k j a b => hz k j a (by omega)), h.2.same hr⟩
theorem xwZ_32 {i l k j : Nat} (h1 : 32 ≤ k) (h2 : k < 58) : xwZ i l k j = false := by simp [xwZ, liZ]; omega
theorem cqZ_32 {k j : Nat} (h1 : 32 ≤ k) (h2 : k < 58) : cqZ k j = false := by simp [cqZ, wZ, liZ]; omega
/-- the listeners' said, by the listener's id -/
def fSd (a3 : Nat) (G : gP) (c : Int32) : Option gP := if a3 = 526 then f_X13_said G c else if a3 = 529 then f_X14_said G c else if a3 = 531 then f_X15_said G c else if a3 = 532 then f_X16_said G c else if a3 = 533 then f_X17_said G c else if a3 = 534 then f_X18_said G c else none
/-- what is there when a reading is said -/
def sdP (L : Lt) (r : Nat) (ns : List Nat) (G : gP) : Prop := (xNow G L) ∧ (∀ k, k < L.n → gS G 4 k = nI (L.pk r k)) ∧ (aL G 2 0 ns) ∧ (gS G 0 5 = nI ns.length) ∧ (nsOk ns)
theorem sdP.now {L : Lt} {r : Nat} {ns : List Nat} {G : gP} (h : sdP L r ns G) : (xNow G L) := h.1
theorem sdP.pk {L : Lt} {r : Nat} {ns : List Nat} {G : gP} (h : sdP L r ns G) : (∀ k, k < L.n → gS G 4 k = nI (L.pk r k)) := h.2.1
theorem sdP.ns {L : Lt} {r : Nat} {ns : List Nat} {G : gP} (h : sdP L r ns G) : (aL G 2 0 ns) := h.2.2.1
theorem sdP.many {L : Lt} {r : Nat} {ns : List Nat} {G : gP} (h : sdP L r ns G) : (gS G 0 5 = nI ns.length) := h.2.2.2.1
theorem sdP.ok {L : Lt} {r : Nat} {ns : List Nat} {G : gP} (h : sdP L r ns G) : (nsOk ns) := h.2.2.2.2
def LsP (L : Lt) (a3 : Nat) (J : Nat → gP → Prop) : Prop := (∀ r ns G, r < L.N → L.ev r = some ns → J r G → sdP L r ns G → Ok (fSd a3 G (nI (L.cost r))) (fun G' => J (r + 1) G' ∧ gOff liZ G G' ∧ rSame G G')) ∧ (∀ r G, r < L.N → L.ev r = none → J r G → J (r + 1) G) ∧ (∀ r G G', J r G → gOff wZ G G' → rSame G G' → J r G')
theorem LsP.sd {L : Lt} {a3 : Nat} {J : Nat → gP → Prop} (h : LsP L a3 J) : (∀ r ns G, r < L.N → L.ev r = some ns → J r G → sdP L r ns G → Ok (fSd a3 G (nI (L.cost r))) (fun G' => J (r + 1) G' ∧ gOff liZ G G' ∧ rSame G G')) := h.1
theorem LsP.sk {L : Lt} {a3 : Nat} {J : Nat → gP → Prop} (h : LsP L a3 J) : (∀ r G, r < L.N → L.ev r = none → J r G → J (r + 1) G) := h.2.1
theorem LsP.fr {L : Lt} {a3 : Nat} {J : Nat → gP → Prop} (h : LsP L a3 J) : (∀ r G G', J r G → gOff wZ G G' → rSame G G' → J r G') := h.2.2
theorem LsP.skip {L : Lt} {a3 : Nat} {J : Nat → gP → Prop} (h : LsP L a3 J) {G : gP} : ∀ d a, a + d ≤ L.N → (∀ r, a ≤ r → r < a + d → L.ev r = none) → J a G → J (a + d) G := by
  intro d
  induction d with
  | zero => intro a _ _ hj; exact hj
  | succ d ih =>
    intro a hN hn hj
    exact h.sk (a + d) _ (by omega) (hn _ (by omega) (by omega)) (ih a (by omega) (fun r h1 h2 => hn r h1 (by omega)) hj)
theorem fin_eq (G : gP) (a1 : Nat) (a2 : Int32) (a3 : Nat) : f_X0_finish G a1 a2 a3 = if f_X10_mayEnd G a1 = 0 then some G else gck (gIn (gS G a1 3) 8) (fSd a3 (gS1 (gS1 G 2 (gS G a1 3).toNatClampNeg (gS G a1 2 + gS G a1 1)) 0 5 (gS (gS1 G 2 (gS G a1 3).toNatClampNeg (gS G a1 2 + gS G a1 1)) a1 3 + 1)) a2) := by
  unfold f_X0_finish fSd
  simp only [gLet_e, obs]
theorem nsOk_8 {ns : List Nat} {v : Nat} (h : ∀ v ∈ ns, v ≤ 999999) (h0 : 0 < ns.length) (h8 : ns.length ≤ 8) : nsOk ns := ⟨h0, h8, h⟩
theorem finish_ok {L : Lt} {a3 : Nat} {J : Nat → gP → Prop} (hL : L.Wf) (hS : LsP L a3 J) (hn : 0 < L.n) {r : Nat} (hr : r < L.N) {e : Er} {G : gP} (he : L.er r L.n = some e) (hJ : J r G) (hN : xNow G L) (hE : xEr G (19 + L.n) e) (ha : aL G 2 0 e.2.2.2.2) (hp : ∀ i, i < L.n → gS G 4 i = nI (L.pk r i)) :
    Ok (f_X0_finish G (19 + L.n) (nI (L.cost r)) a3) (fun G' => J (r + 1) G' ∧ gOff (xwZ L.n e.2.2.2.2.length) G G' ∧ rSame G G') := by
  have h8 := hL.n8
  have hG := L.er_G r _ _ he
  have hev := L.ev_er r
  rw [he] at hev
  rw [fin_eq, mayEnd_I hE hG.1]
  have hf : (some e : Option Er).bind eFin = if eEnd e then some (e.2.2.2.2 ++ [e.2.2.1 + e.2.1]) else none := rfl
  rw [hf] at hev
  cases hb : eEnd e
  · rw [hb] at hev
    rw [if_pos (show bI false = 0 from rfl)]
    exact ⟨_, rfl, hS.sk _ _ hr hev hJ, gOff.rf, rSame.rf⟩
  · rw [hb, if_pos rfl] at hev
    have hne := ((eEnd_iff e).mp hb).1
    have hl := hG.2
    rw [if_neg hne] at hl
    rw [if_neg (show ¬ bI true = 0 by decide), hE.2.2.2.1, gIn_t (by omega) (by omega), gck_t, nI_clamp (by omega), hE.2.2.1, hE.2.1, nI_add, gS_ne (show ¬ (19 + L.n = 2 ∧ 3 = _) by omega), hE.2.2.2.1, nI_1]
    have hOw : gOff wZ G (gS1 (gS1 G 2 e.2.2.2.2.length (nI (e.2.2.1 + e.2.1))) 0 5 (nI (e.2.2.2.2.length + 1))) := (gOff.rf.S1 (by simp [wZ])).S1 (by simp [wZ])
    have hOx : gOff (xwZ L.n e.2.2.2.2.length) G (gS1 (gS1 G 2 e.2.2.2.2.length (nI (e.2.2.1 + e.2.1))) 0 5 (nI (e.2.2.2.2.length + 1))) := (gOff.rf.S1 (by simp [xwZ])).S1 (by simp [xwZ])
    have hrr : rSame G (gS1 (gS1 G 2 e.2.2.2.2.length (nI (e.2.2.1 + e.2.1))) 0 5 (nI (e.2.2.2.2.length + 1))) := (rSame.rf.S1).S1
    have hpush := ha.push (v := e.2.2.1 + e.2.1)
    rw [Nat.zero_add] at hpush
    have ht := hL.tell_ok (hL.pk_ok r) hev
    refine (hS.sd r _ _ hr hev (hS.fr _ _ _ hJ hOw hrr) ⟨hN.q hL hOx hrr (fun k j => xwZ_32), fun i hi => ?_, hpush.S1 (Or.inl (by decide)), ?_, ⟨ht.2, ?_, ht.1⟩⟩).imp ?_
    · rw [gS_ne (by omega), gS_ne (by omega)]; exact hp i hi
    · rw [gS_at, List.length_append, List.length_singleton]
    · rw [List.length_append, List.length_singleton]; omega
    · rintro G' ⟨a, b, c⟩
      exact ⟨a, hOx.tr (b.w (fun k j z => by simp only [xwZ, Bool.or_eq_false_iff] at z; exact z.2)), hrr.tr c⟩
theorem walk_ok {L : Lt} {a3 : Nat} {J : Nat → gP → Prop} (hL : L.Wf) (hS : LsP L a3 J) (hn : 0 < L.n) : ∀ d k, k + d = L.n → ∀ dd, d < dd → ∀ q e G, (q + 1) * L.P k ≤ L.N → L.er (q * L.P k) k = some e → J (q * L.P k) G → xNow G L → xEr G (19 + k) e → aL G 2 0 e.2.2.2.2 → (∀ i, i < k → gS G 4 i = nI (L.pk (q * L.P k) i)) →
    Ok (f_X0_walk dd G (nI k) (nI (L.cs (L.pk (q * L.P k)) k)) a3) (fun G' => J ((q + 1) * L.P k) G' ∧ gOff (xwZ k e.2.2.2.2.length) G G' ∧ rSame G G') := by
  have h8 := hL.n8
  intro d
  induction d with
  | zero =>
    intro k hk dd hdd q e G hq he hJ hN hE ha hp
    have hkn : k = L.n := by omega
    subst hkn
    obtain ⟨dd, rfl⟩ : ∃ x, dd = x + 1 := ⟨dd - 1, by omega⟩
    unfold f_X0_walk
    rw [if_pos hN.1.1.symm, gIn_t (by omega) (by omega), gck_t, nI_clamp (by omega), obs]
    simp only [L.P_n, Nat.mul_one] at he hJ hp hq ⊢
    exact finish_ok hL hS hn (by omega) he hJ hN hE ha hp
  | succ d ih =>
    intro k hk dd hdd q e G hq he hJ hN hE ha hp
    obtain ⟨dd, rfl⟩ : ∃ x, dd = x + 1 := ⟨dd - 1, by omega⟩
    have hkn : k < L.n := by omega
    have hm := hL.m1 k hkn
    have hP1 := hL.Ppos (k + 1)
    have hPk := L.P_s hkn
    have hG := L.er_G _ _ _ he
    unfold f_X0_walk
    rw [hN.1.1, if_neg (fun z => by have := (nI_eq (by omega) (by omega)).mp z; omega), gIn_t (by omega) (by omega), gck_t, nI_clamp (by omega), hN.2.ref0 (by omega)]
    simp only [obind_some, obs]
    have hb0 : q * L.P k = (q * L.m k + 0) * L.P (k + 1) := by rw [hPk, ← Nat.mul_assoc]; rfl
    have hb1 : (q + 1) * L.P k = (q * L.m k + L.m k) * L.P (k + 1) := by rw [hPk, ← Nat.mul_assoc, Nat.succ_mul]
    have hdiv : ∀ c r, c < L.m k → r / L.P (k + 1) = q * L.m k + c → r / L.P k = q := by
      intro c r hc h
      rw [hPk, Nat.mul_comm, ← Nat.div_div_eq_div_mul, h, Nat.mul_comm, Nat.mul_add_div (by omega), Nat.div_eq_of_lt hc, Nat.add_zero]
    have hbq : q * L.P k / L.P k = q := Nat.mul_div_cancel _ (hL.Ppos k)
    have hpre : ∀ c r, c < L.m k → r / L.P (k + 1) = q * L.m k + c → ∀ i, i < k → L.pk r i = L.pk (q * L.P k) i := fun c r hc h i hi => L.pk_pre (by omega) ((hdiv c r hc h).trans hbq.symm) hi
    have hpk : ∀ c r, c < L.m k → r / L.P (k + 1) = q * L.m k + c → L.pk r k = c := by
      intro c r hc h
      unfold Lt.pk
      rw [h, Nat.mul_comm, Nat.mul_add_mod, Nat.mod_eq_of_lt hc]
    have hbase : ∀ c, (q * L.m k + c) * L.P (k + 1) / L.P (k + 1) = q * L.m k + c := fun c => Nat.mul_div_cancel _ hP1
    have her : ∀ c r, c < L.m k → r / L.P (k + 1) = q * L.m k + c → L.er r (k + 1) = eStep e (L.w k c) := by
      intro c r hc h
      show (L.er r k).bind _ = _
      rw [L.er_pre k (by omega) (hpre c r hc h), he, hpk c r hc h]
      rfl
    have hsr := hN.2.rng (j := k) (by omega)
    refine (Ok.up (P := fun G' => J ((q + 1) * L.P k) G' ∧ gOff (xwZ k e.2.2.2.2.length) G G' ∧ rSame G G') (fun c s => s.2 = nI c ∧ J ((q * L.m k + c) * L.P (k + 1)) s.1 ∧ gOff (xwZ k e.2.2.2.2.length) G s.1 ∧ rSame G s.1) (L.m k) (by omega) ?_ ?_ ⟨rfl, by rw [← hb0]; exact hJ, gOff.rf, rSame.rf⟩)
    · rintro c ⟨G1, x⟩ hc ⟨hx, hJ1, hO1, hr1⟩
      simp only at hx hJ1 hO1 hr1
      subst hx
      have hN1 : xNow G1 L := hN.q hL hO1 hr1 (fun k j => xwZ_32)
      have hsl := hN1.1.2.2.2.2 k hkn
      rw [hr1.sg] at hsl
      have hw := hL.w32 k c hkn hc
      have hcc := hL.c10 k c hkn hc
      unfold f_X0_walk_b38
      simp only
      rw [hsl.1, if_neg (nI_ge hc (by omega)), gIn_t (by omega) (by omega), gck_t, nI_1, gIn_t (show k + 1 < 2 ^ 31 by omega) (show k + 1 < 9 by omega), gIn_t (show k < 2 ^ 31 by omega) (show k < 9 by omega), nI_clamp (by omega), nI_clamp (show k + 1 < 2 ^ 31 by omega), gIn_t (show c < 2 ^ 31 by omega) (show c < 4 by omega), nI_clamp (show c < 2 ^ 31 by omega)]
      simp only [gLet_e, gck_t]
      have hE1 : xEr (gS1 G1 4 k (nI c)) (19 + k) e := hE.off (hO1.S1 (k := 4) (j := k) (v := nI c) (by simp [xwZ])) (fun j => by simp [xwZ, liZ]; omega)
      refine Ok.bind (takeFrom_ok (k := 19 + (k + 1)) hE1 (by omega)) (fun G2 h2 => ?_)
      obtain ⟨hO2, hr2, hE2⟩ := h2
      have hOw2 : gOff wZ G1 G2 := (gOff.rf.S1 (by simp [wZ])).tr (hO2.w (fun a j z => by simp [wZ] at z ⊢; omega))
      have hOx2 : gOff (xwZ k e.2.2.2.2.length) G G2 := (hO1.S1 (by simp [xwZ])).tr (hO2.w (fun a j z => by simp [xwZ, liZ] at z ⊢; omega))
      have hr02 : rSame G G2 := (hr1.S1).tr hr2
      have hr12 : rSame G1 G2 := (rSame.rf.S1).tr hr2
      have hN2 : xNow G2 L := hN.q hL hOx2 hr02 (fun k j => xwZ_32)
      have hsl2 := hN2.1.2.2.2.2 k hkn
      rw [hr02.sg] at hsl2
      have ha2 : aL G2 2 0 e.2.2.2.2 := by
        intro j v hj
        have hjl := (List.getElem?_eq_some_iff.mp hj).1
        rw [(hOx2 2 _ (by simp [xwZ, liZ]; omega)).1]
        exact ha j v hj
      rw [(hsl2.2 c hc).1]
      refine Ok.bind (hear_w hE2 (by omega) ha2 (i := k) (by omega) hG hw) (fun g3 h3 => ?_)
      obtain ⟨G3, y3⟩ := g3
      obtain ⟨hO3, hr3, h3⟩ := h3
      simp only at hO3 hr3 h3 ⊢
      have hOw3 : gOff wZ G1 G3 := hOw2.tr (hO3.w (fun a j z => by simp [wZ] at z ⊢; omega))
      have hOx3 : gOff (xwZ k e.2.2.2.2.length) G G3 := hOx2.tr (hO3.w (fun a j z => by simp [xwZ, liZ] at z ⊢; omega))
      have hr03 : rSame G G3 := hr02.tr hr3
      have hJ3 : J ((q * L.m k + c) * L.P (k + 1)) G3 := hS.fr _ _ _ hJ1 hOw3 (hr12.tr hr3)
      have hN3 : xNow G3 L := hN.q hL hOx3 hr03 (fun k j => xwZ_32)
      have hle : (q * L.m k + (c + 1)) * L.P (k + 1) ≤ L.N := by
        refine Nat.le_trans (Nat.mul_le_mul_right _ ?_) (hb1 ▸ hq)
        omega
      have hsucc : (q * L.m k + (c + 1)) * L.P (k + 1) = (q * L.m k + c) * L.P (k + 1) + L.P (k + 1) := by rw [← Nat.add_assoc, Nat.succ_mul]
      cases hs : eStep e (L.w k c) with
      | none =>
        rw [hs] at h3
        simp only at h3
        rw [h3, if_pos rfl]
        refine ⟨_, rfl, nI_1 c, ?_, hOx3, hr03⟩
        simp only
        rw [hsucc]
        refine hS.skip _ _ (by rw [← hsucc]; exact hle) (fun r h1 h2 => ?_) hJ3
        have hr : r / L.P (k + 1) = q * L.m k + c := by
          rw [Nat.div_eq_of_lt_le h1 (by rw [Nat.succ_mul]; exact h2)]
        have := her c r hc hr
        rw [hs] at this
        rw [L.ev_er, show L.n = (k + 1) + (L.n - (k + 1)) by omega, L.er_none _ _ this]
        rfl
      | some e' =>
        rw [hs] at h3
        simp only at h3
        obtain ⟨h3a, h3b, h3c⟩ := h3
        rw [h3a, if_neg (by decide)]
        have hsl3 := hN3.1.2.2.2.2 k hkn
        rw [hr03.sg] at hsl3
        rw [(hsl3.2 c hc).2, nI_add]
        have hcs : L.cs (L.pk (q * L.P k)) k + L.c k c = L.cs (L.pk ((q * L.m k + c) * L.P (k + 1))) (k + 1) := by
          show _ = L.cs _ k + L.c k (L.pk _ k)
          rw [hpk c _ hc (hbase c), L.cs_pre k (hpre c _ hc (hbase c))]
        rw [hcs]
        have hpre' := (eStep_G hG hs).2
        have hpl : e.2.2.2.2.length ≤ e'.2.2.2.2.length := hpre'.length_le
        refine Ok.bind (ih (k + 1) (by omega) dd (by omega) (q * L.m k + c) e' G3 ?_ ((her c _ hc (hbase c)).trans hs) hJ3 hN3 h3b h3c ?_) (fun G4 h4 => ?_)
        · rw [Nat.add_assoc]; exact hle
        · intro i hi
          by_cases hik : i = k
          · subst hik
            rw [hpk c _ hc (hbase c), (hO3 4 i (by simp; omega)).1, (hO2 4 i (by simp; omega)).1, gS_at]
          · rw [hpre c _ hc (hbase c) i (by omega), (hOx3 4 i (by simp [xwZ, liZ]; omega)).1]
            exact hp i (by omega)
        · obtain ⟨hJ4, hO4, hr4⟩ := h4
          refine ⟨_, rfl, nI_1 c, ?_, hOx3.tr (hO4.w (fun a j z => ?_)), hr03.tr hr4⟩
          · rw [Nat.add_assoc] at hJ4; exact hJ4
          · simp only [xwZ, Bool.or_eq_false_iff, decide_eq_false_iff_not] at z ⊢
            exact ⟨by omega, z.2⟩
    · rintro ⟨G1, x⟩ ⟨hx, hJ1, hO1, hr1⟩
      simp only at hx hJ1 hO1 hr1
      subst hx
      have hN1 : xNow G1 L := hN.q hL hO1 hr1 (fun k j => xwZ_32)
      have hsl := hN1.1.2.2.2.2 k hkn
      rw [hr1.sg] at hsl
      unfold f_X0_walk_b38
      simp only
      rw [hsl.1, if_pos (nI_le (Nat.le_refl _) (by omega))]
      exact ⟨_, rfl, by rw [hb1]; exact hJ1, hO1, hr1⟩
theorem listen_ok {L : Lt} {a3 : Nat} {J : Nat → gP → Prop} (hL : L.Wf) (hS : LsP L a3 J) {G : gP} (hN : xNow G L) (hJ : J 0 G) : Ok (f_X0_listen G a3) (fun G' => J L.N G' ∧ gOff cqZ G G' ∧ rSame G G') := by
  have h8 := hL.n8
  unfold f_X0_listen
  refine Ok.bind (beg_ok G 19) (fun G1 h1 => ?_)
  obtain ⟨hO1, hr1, hE1⟩ := h1
  rw [obs]
  have hOw : gOff wZ G G1 := hO1.w (fun a j z => by simp [wZ] at z ⊢; omega)
  have hOc : gOff cqZ G G1 := hOw.w (fun a j z => by simp only [cqZ, Bool.or_eq_false_iff] at z; exact z.1)
  have hJ1 := hS.fr _ _ _ hJ hOw hr1
  have hN1 : xNow G1 L := hN.q hL hOc hr1 (fun k j => cqZ_32)
  by_cases hn : L.n = 0
  · unfold f_X0_walk
    rw [hN1.1.1, hn, if_pos (show (0 : Int32) = nI 0 from rfl), show gIn 0 9 = true from gIn_t (k := 0) (n := 9) (by decide) (by decide), gck_t, obs, fin_eq]
    have hm : f_X10_mayEnd G1 (19 + (0 : Int32).toNatClampNeg) = 0 := by
      rw [show 19 + (0 : Int32).toNatClampNeg = 19 from rfl, mayEnd_I hE1 (by decide)]; rfl
    rw [if_pos hm]
    refine ⟨_, rfl, ?_, hOc, hr1⟩
    have : L.N = 0 := by unfold Lt.N; rw [if_pos hn]
    rw [this]; exact hJ1
  · have hNN : L.N = L.P 0 := by unfold Lt.N; rw [if_neg hn]
    have hw := walk_ok hL hS (by omega) L.n 0 (by omega) 9 (by omega) 0 e0 G1 (by rw [hNN]; omega) rfl (by rw [Nat.zero_mul]; exact hJ1) hN1 hE1 (fun j v h => by cases h) (fun i hi => by omega)
    refine Ok.imp hw ?_
    rintro G' ⟨a, b, c⟩
    refine ⟨?_, hOc.tr (b.w (fun k j z => ?_)), hr1.tr c⟩
    · rw [hNN]; rw [Nat.zero_add, Nat.one_mul] at a; exact a
    · simp [cqZ, xwZ, wZ, liZ] at z ⊢; omega
end
section
/-! what is sound, by the component's checks -/
/-- what the numbers are -/
def nuP (G : gP) (ns : List Nat) : Prop := aL G 2 0 ns ∧ nsOk ns
theorem nuP.at {G : gP} {ns : List Nat} (h : nuP G ns) {j : Nat} (hj : j < ns.length) : gS G 2 j = nI (nsF ns j) := by
  have := nsF_aL h.1 hj
  rwa [Nat.zero_add] at this
theorem sound_1 (ns : List Nat) : sound 1 ns = (decide (1 < ns.length) && decide (suN (nsF ns) (ns.length - 1) = nsF ns (ns.length - 1))) := rfl
theorem sound_3 (ns : List Nat) : sound 3 ns = (decide (1 < ns.length) && decide (suN (nsF ns) (ns.length - 1) % 100 = nsF ns (ns.length - 1) % 100)) := rfl
theorem sum_ok {G : gP} {ns : List Nat} (h : nuP G ns) : Ok (gloop (f_X2_holds_15_b5 (nI ns.length) G) gFu ((0 : Int32), (0 : Int32))) (fun x => x = nI (suN (nsF ns) (ns.length - 1))) := by
  have h0 := h.2.1
  have h8 := h.2.2.1
  refine Ok.up (fun i s => s = (nI (suN (nsF ns) i), nI i)) (ns.length - 1) (by omega) ?_ ?_ rfl
  · rintro i s hi rfl
    unfold f_X2_holds_15_b5
    simp (disch := omega) only [nLit, neg_nI, nI_add, pk_mul, nI_sub1, nI_clamp, gIn_t, gck_t, gLet_e, nI_leI, nI_ltJ, nI_eq, nI_nM_eq, nM_nI_eq, nM_eq, nM_nI_le, nI_nM_le, nM_nI_lt, nI_nM_lt, at_nI, gS_at, gS_ne', obind_some, iteT, iteF, ite_p, ite_n, h.at (show i < ns.length by omega)]
    exact ⟨_, rfl, rfl⟩
  · rintro s rfl
    unfold f_X2_holds_15_b5
    simp (disch := omega) only [nLit, neg_nI, nI_add, pk_mul, nI_sub1, nI_clamp, gIn_t, gck_t, gLet_e, nI_leI, nI_ltJ, nI_eq, nI_nM_eq, nM_nI_eq, nM_eq, nM_nI_le, nI_nM_le, nM_nI_lt, nI_nM_lt, at_nI, gS_at, gS_ne', obind_some, iteT, iteF, ite_p, ite_n]
    exact ⟨_, rfl, rfl⟩
theorem total_ok {G : gP} {ns : List Nat} (h : nuP G ns) : Ok (f_X2_holds_15 G (nI ns.length)) (fun x => x = bI (sound 1 ns)) := by
  have h0 := h.2.1
  have h8 := h.2.2.1
  unfold f_X2_holds_15
  refine Ok.bind (sum_ok h) (fun x hx => ?_)
  subst hx
  unfold f_X1_holds_15 f_X2_part_15
  have hs := suN_le h.2 (ns.length - 1)
  have hf := nsF_le h.2 (ns.length - 1)
  rw [sound_1]
  simp (disch := omega) only [nLit, neg_nI, nI_add, pk_mul, nI_sub1, nI_clamp, gIn_t, gck_t, gLet_e, nI_leI, nI_ltJ, nI_eq, nI_nM_eq, nM_nI_eq, nM_eq, nM_nI_le, nI_nM_le, nM_nI_lt, nI_nM_lt, at_nI, gS_at, gS_ne', obind_some, iteT, iteF, ite_p, ite_n, h.at (show ns.length - 1 < ns.length by omega)]
  by_cases hl : 1 < ns.length
  · rw [if_neg (show ¬ ns.length - 1 ≤ 0 by omega), decide_eq_true hl]
    simp (disch := omega) only [nLit, neg_nI, nI_add, pk_mul, nI_sub1, nI_clamp, gIn_t, gck_t, gLet_e, nI_leI, nI_ltJ, nI_eq, nI_nM_eq, nM_nI_eq, nM_eq, nM_nI_le, nI_nM_le, nM_nI_lt, nI_nM_lt, at_nI, gS_at, gS_ne', obind_some, iteT, iteF, ite_p, ite_n]
    by_cases he : suN (nsF ns) (ns.length - 1) = nsF ns (ns.length - 1)
    · rw [if_pos he, decide_eq_true he]; exact ⟨_, rfl, rfl⟩
    · rw [if_neg he, decide_eq_false he]; exact ⟨_, rfl, rfl⟩
  · rw [if_pos (show ns.length - 1 ≤ 0 by omega), decide_eq_false hl]
    simp (disch := omega) only [nLit, neg_nI, nI_add, pk_mul, nI_sub1, nI_clamp, gIn_t, gck_t, gLet_e, nI_leI, nI_ltJ, nI_eq, nI_nM_eq, nM_nI_eq, nM_eq, nM_nI_le, nI_nM_le, nM_nI_lt, nI_nM_lt, at_nI, gS_at, gS_ne', obind_some, iteT, iteF, ite_p, ite_n]
    exact ⟨_, rfl, rfl⟩
theorem ending_ok {G : gP} {ns : List Nat} (h : nuP G ns) : Ok (f_X2_holds_17 G (nI ns.length)) (fun x => x = bI (sound 3 ns)) := by
  have h0 := h.2.1
  have h8 := h.2.2.1
  unfold f_X2_holds_17
  refine Ok.bind (show Ok (gloop (f_X2_holds_17_b5 (nI ns.length) G) gFu ((0 : Int32), (0 : Int32))) _ from sum_ok h) (fun x hx => ?_)
  subst hx
  unfold f_X1_holds_17 f_X4_part_17 f_X2_part_17
  have hs := suN_le h.2 (ns.length - 1)
  have hf := nsF_le h.2 (ns.length - 1)
  rw [sound_3]
  have e1 : gRem (nI (suN (nsF ns) (ns.length - 1))) (nI 100) = nI (suN (nsF ns) (ns.length - 1) % 100) := gRem_nI (by omega) (by decide) (by decide)
  have e2 : gRem (nI (nsF ns (ns.length - 1))) (nI 100) = nI (nsF ns (ns.length - 1) % 100) := gRem_nI (by omega) (by decide) (by decide)
  simp (disch := omega) only [nLit, neg_nI, nI_add, pk_mul, nI_sub1, nI_clamp, gIn_t, gck_t, gLet_e, nI_leI, nI_ltJ, nI_eq, nI_nM_eq, nM_nI_eq, nM_eq, nM_nI_le, nI_nM_le, nM_nI_lt, nI_nM_lt, at_nI, gS_at, gS_ne', obind_some, iteT, iteF, ite_p, ite_n, h.at (show ns.length - 1 < ns.length by omega), e1, e2]
  by_cases hl : 1 < ns.length
  · rw [if_neg (show ¬ ns.length - 1 ≤ 0 by omega), decide_eq_true hl]
    simp (disch := omega) only [nLit, neg_nI, nI_add, pk_mul, nI_sub1, nI_clamp, gIn_t, gck_t, gLet_e, nI_leI, nI_ltJ, nI_eq, nI_nM_eq, nM_nI_eq, nM_eq, nM_nI_le, nI_nM_le, nM_nI_lt, nI_nM_lt, at_nI, gS_at, gS_ne', obind_some, iteT, iteF, ite_p, ite_n]
    by_cases he : suN (nsF ns) (ns.length - 1) % 100 = nsF ns (ns.length - 1) % 100
    · rw [if_pos he, decide_eq_true he]; exact ⟨_, rfl, rfl⟩
    · rw [if_neg he, decide_eq_false he]; exact ⟨_, rfl, rfl⟩
  · rw [if_pos (show ns.length - 1 ≤ 0 by omega), decide_eq_false hl]
    simp (disch := omega) only [nLit, neg_nI, nI_add, pk_mul, nI_sub1, nI_clamp, gIn_t, gck_t, gLet_e, nI_leI, nI_ltJ, nI_eq, nI_nM_eq, nM_nI_eq, nM_eq, nM_nI_le, nI_nM_le, nM_nI_lt, nI_nM_lt, at_nI, gS_at, gS_ne', obind_some, iteT, iteF, ite_p, ite_n]
    exact ⟨_, rfl, rfl⟩
theorem rising_ok {G : gP} {ns : List Nat} (h : nuP G ns) : Ok (f_X3_holds_16 G (nI ns.length)) (fun x => x = bI (rsB (nsF ns) (ns.length - 1))) := by
  have h0 := h.2.1
  have h8 := h.2.2.1
  unfold f_X3_holds_16
  simp only [gLet_e]
  have e1 : f_X1_holds_16 (nI ns.length) = bI (rsB (nsF ns) 0) := by
    unfold f_X1_holds_16
    rw [if_neg (nI_nle (by omega) (by omega))]; rfl
  rw [e1]
  refine Ok.bind (Q := fun x => x = bI (rsB (nsF ns) (ns.length - 1))) ?_ (fun x hx => by subst hx; rw [bI_Z, gck_t]; exact ⟨_, rfl, rfl⟩)
  refine Ok.up (fun i s => s = (bI (rsB (nsF ns) i), nI (i + 1))) (ns.length - 1) (by omega) ?_ ?_ rfl
  · rintro i s hi rfl
    unfold f_X3_holds_16_b10
    have g1 := h.at (show i < ns.length by omega)
    have g2 := h.at (show i + 1 < ns.length by omega)
    have f1 := nsF_le h.2 i
    have f2 := nsF_le h.2 (i + 1)
    have e3 : nI (i + 1) - nI 1 = nI i := pk_sub (by omega)
    simp only
    rw [if_neg (nI_ge (show i + 1 < ns.length by omega) (by omega))]
    have e9 : rsB (nsF ns) (i + 1) = (rsB (nsF ns) i && decide (nsF ns i < nsF ns (i + 1))) := rfl
    rw [e9]
    cases hb : rsB (nsF ns) i with
    | false =>
      rw [if_pos (show bI false = 0 from rfl)]
      exact ⟨_, rfl, by simp only; rw [nI_1]; rfl⟩
    | true =>
      rw [if_neg (show ¬ bI true = 0 by decide)]
      simp (disch := omega) only [nLit, neg_nI, nI_add, pk_mul, nI_sub1, nI_clamp, gIn_t, gck_t, gLet_e, nI_leI, nI_ltJ, nI_eq, nI_nM_eq, nM_nI_eq, nM_eq, nM_nI_le, nI_nM_le, nM_nI_lt, nI_nM_lt, at_nI, gS_at, gS_ne', obind_some, iteT, iteF, ite_p, ite_n, e3, g1, g2]
      by_cases hlt : nsF ns i < nsF ns (i + 1)
      · rw [if_neg (by omega), decide_eq_true hlt]; exact ⟨_, rfl, rfl⟩
      · rw [if_pos (by omega), decide_eq_false hlt]; exact ⟨_, rfl, rfl⟩
  · rintro s rfl
    unfold f_X3_holds_16_b10
    simp only
    rw [if_pos (nI_le (show ns.length ≤ ns.length - 1 + 1 by omega) (by omega))]
    exact ⟨_, rfl, rfl⟩
theorem stB_1 (f : Nat → Nat) : stB f 1 = true := by unfold stB stB; simp
theorem steady_ok {G : gP} {ns : List Nat} (h : nuP G ns) : Ok (f_X5_holds_18 G (nI ns.length)) (fun x => x = bI (rsB (nsF ns) (ns.length - 1) && stB (nsF ns) (ns.length - 1))) := by
  have h0 := h.2.1
  have h8 := h.2.2.1
  unfold f_X5_holds_18
  refine Ok.bind (show Ok (f_X3_holds_18 G (nI ns.length)) _ from rising_ok h) (fun x hx => ?_)
  subst hx
  generalize rsB (nsF ns) (ns.length - 1) = rb
  refine Ok.bind (Q := fun x => x = bI (rb && stB (nsF ns) (ns.length - 1))) ?_ (fun x hx => by subst hx; rw [bI_Z, gck_t]; exact ⟨_, rfl, rfl⟩)
  by_cases h1 : ns.length = 1
  · refine Ok.out (r := bI rb) ?_ ?_
    · unfold f_X5_holds_18_b10
      simp only
      rw [h1, if_pos (show nI 1 ≤ 2 by decide)]
    · rw [h1]; show bI rb = bI (rb && true); rw [Bool.and_true]
  refine Ok.up (fun i s => s = (bI (rb && stB (nsF ns) (i + 1)), nI (i + 2))) (ns.length - 2) (by omega) ?_ ?_ (by rw [stB_1, Bool.and_true]; rfl)
  · rintro i s hi rfl
    unfold f_X5_holds_18_b10
    have g0 := h.at (show 0 < ns.length by omega)
    have g1 := h.at (show 1 < ns.length by omega)
    have g2 := h.at (show i + 1 < ns.length by omega)
    have g3 := h.at (show i + 2 < ns.length by omega)
    have f0 := nsF_le h.2 0
    have f1 := nsF_le h.2 1
    have f2 := nsF_le h.2 (i + 1)
    have f3 := nsF_le h.2 (i + 2)
    have e3 : nI (i + 2) - 1 = nI (i + 1) := nI_pred (i + 1)
    simp only
    rw [if_neg (nI_ge (show i + 2 < ns.length by omega) (by omega)), e3, gIn_t (by omega) (by omega), gIn_t (show i + 1 < 2 ^ 31 by omega) (by omega), gck_t, gck_t, nI_clamp (by omega), nI_clamp (show i + 1 < 2 ^ 31 by omega), g0, g1, g2, g3]
    have e9 : stB (nsF ns) (i + 1 + 1) = (stB (nsF ns) (i + 1) && decide ((nsF ns (i + 1 + 1) : Int) - (nsF ns (i + 1) : Int) = (nsF ns 1 : Int) - (nsF ns 0 : Int))) := rfl
    rw [e9, ← Bool.and_assoc, show i + 1 + 2 = i + 2 + 1 by omega]
    cases hb : (rb && stB (nsF ns) (i + 1)) with
    | false =>
      rw [if_pos (show bI false = 0 from rfl)]
      exact ⟨_, rfl, by simp only; rw [nI_1]; rfl⟩
    | true =>
      rw [if_neg (show ¬ bI true = 0 by decide)]
      by_cases hlt : (nsF ns (i + 1 + 1) : Int) - (nsF ns (i + 1) : Int) = (nsF ns 1 : Int) - (nsF ns 0 : Int)
      · rw [if_pos ((sub_iff (by omega) (by omega) (by omega) (by omega)).mpr hlt), decide_eq_true hlt]
        exact ⟨_, rfl, by simp only; rw [nI_1]; rfl⟩
      · have f3' : nsF ns (i + 1 + 1) ≤ 999999 := f3
        rw [if_neg (fun z => hlt ((sub_iff (by omega) (by omega) (by omega) (by omega)).mp z)), decide_eq_false hlt]
        exact ⟨_, rfl, by simp only; rw [nI_1]; rfl⟩
  · rintro s rfl
    unfold f_X5_holds_18_b10
    simp only
    rw [if_pos (nI_le (show ns.length ≤ ns.length - 2 + 2 by omega) (by omega))]
    refine ⟨_, rfl, ?_⟩
    simp only
    rw [show ns.length - 2 + 1 = ns.length - 1 by omega]
theorem isSound_ok {G : gP} {k : Nat} {ns : List Nat} (hk5 : k < 5) (hk : gS G 32 2 = nI k) (hm : gS G 0 5 = nI ns.length) (h : nuP G ns) : Ok (f_X12_isSound_526 G) (fun x => x = bI (sound k ns)) := by
  have h0 := h.2.1
  have h8 := h.2.2.1
  unfold f_X12_isSound_526
  rw [hk, hm, gIn_t (by omega) hk5, gck_t]
  have hc : k = 0 ∨ k = 1 ∨ k = 2 ∨ k = 3 ∨ k = 4 := by omega
  rcases hc with rfl | rfl | rfl | rfl | rfl
  · rw [if_pos (show nI 0 = 0 from rfl)]
    unfold f_X1_holds_14
    rw [if_neg (nI_nle (by omega) (by omega))]
    exact ⟨_, rfl, rfl⟩
  · rw [if_neg (by decide), if_pos (show nI 1 = 1 from rfl), obs]
    exact total_ok h
  · rw [if_neg (by decide), if_neg (by decide), if_pos (show nI 2 = 2 from rfl), obs]
    exact rising_ok h
  · rw [if_neg (by decide), if_neg (by decide), if_neg (by decide), if_pos (show nI 3 = 3 from rfl), obs]
    exact ending_ok h
  · rw [if_neg (by decide), if_neg (by decide), if_neg (by decide), if_neg (by decide), if_pos (show nI 4 = 4 from rfl), obs]
    exact steady_ok h
theorem sdP.so {L : Lt} {r : Nat} {ns : List Nat} {G : gP} (hL : L.Wf) (h : sdP L r ns G) (he : L.ev r = some ns) : Ok (f_X12_isSound_526 G) (fun x => x = bI (L.so r)) := by
  have : L.so r = sound L.kind ns := by unfold Lt.so; rw [he]
  rw [this]
  exact isSound_ok hL.k5 h.now.1.2.1 h.many ⟨h.ns, h.ok⟩
theorem snd529 : f_X12_isSound_529 = f_X12_isSound_526 := rfl
theorem snd531 : f_X12_isSound_531 = f_X12_isSound_526 := rfl
theorem snd532 : f_X12_isSound_532 = f_X12_isSound_526 := rfl
theorem snd533 : f_X12_isSound_533 = f_X12_isSound_526 := rfl
theorem snd534 : f_X12_isSound_534 = f_X12_isSound_526 := rfl
theorem sdP.lis {Z : Nat → Nat → Bool} {L : Lt} {r : Nat} {ns : List Nat} {G G' : gP} (hL : L.Wf) (h : sdP L r ns G) (hO : gOff Z G G') (hr : rSame G G') (hz : ∀ k j, k = 2 ∨ k = 4 ∨ (k = 0 ∧ j = 5) ∨ (32 ≤ k ∧ k < 58) → Z k j = false) : sdP L r ns G' :=
  ⟨h.now.q hL hO hr (fun k j a b => hz k j (Or.inr (Or.inr (Or.inr ⟨a, b⟩)))), fun k hk => by rw [(hO 4 k (hz _ _ (by omega))).1]; exact h.pk k hk, fun j v hj => by rw [(hO 2 _ (hz _ _ (by omega))).1]; exact h.ns j v hj, by rw [(hO 0 5 (hz _ _ (by omega))).1]; exact h.many, h.ok⟩
end
section
/-! the first listener: how many are said, sound; the best -/
theorem Lt.soundN_0 {L : Lt} (hL : L.Wf) : ∀ t, L.soundN t = 0 ↔ L.bestR t = none := by
  intro t
  induction t with
  | zero => exact ⟨fun _ => rfl, fun _ => rfl⟩
  | succ t ih =>
    unfold Lt.soundN Lt.bestR
    cases hs : L.so t
    · rw [if_neg (by decide), if_neg (fun z => by cases z.1)]; exact ih
    · rw [if_pos rfl]
      refine ⟨fun z => by omega, fun z => ?_⟩
      exfalso
      by_cases hc : L.cost t < L.costO (L.bestR t)
      · rw [if_pos ⟨rfl, hc⟩] at z; cases z
      · rw [if_neg (fun q => hc q.2)] at z
        rw [z] at hc
        have := hL.cost_le t
        exact hc (show L.cost t < 9999 by omega)
/-- the best one, as First holds it -/
def fBs (L : Lt) (G : gP) : Option Nat → Prop
  | none => gS G 526 3 = nI 1000000
  | some b => gS G 526 3 = nI (L.cost b) ∧ (∀ k, k < L.n → gS G 527 k = nI (L.pk b k)) ∧ ∃ ns, L.ev b = some ns ∧ nsOk ns ∧ gS G 526 6 = nI ns.length ∧ aL G 528 0 ns
def fJ (L : Lt) (r : Nat) (G : gP) : Prop := (gS G 526 1 = nI (L.saidN r)) ∧ (gS G 526 2 = nI (L.soundN r)) ∧ (fBs L G (L.bestR r))
theorem fJ.said {L : Lt} {r : Nat} {G : gP} (h : fJ L r G) : (gS G 526 1 = nI (L.saidN r)) := h.1
theorem fJ.snd {L : Lt} {r : Nat} {G : gP} (h : fJ L r G) : (gS G 526 2 = nI (L.soundN r)) := h.2.1
theorem fJ.best {L : Lt} {r : Nat} {G : gP} (h : fJ L r G) : (fBs L G (L.bestR r)) := h.2.2
theorem fBs.off {Z : Nat → Nat → Bool} {L : Lt} {G G' : gP} {o : Option Nat} (h : fBs L G o) (hO : gOff Z G G') (z : ∀ k j, (k = 526 ∧ (j = 3 ∨ j = 6)) ∨ k = 527 ∨ k = 528 → Z k j = false) : fBs L G' o := by
  cases o with
  | none =>
    show gS G' 526 3 = nI 1000000
    rw [(hO 526 3 (z _ _ (by omega))).1]; exact h
  | some b =>
    obtain ⟨h1, h2, ns, h3, h4, h5, h6⟩ := h
    refine ⟨?_, fun k hk => ?_, ns, h3, h4, ?_, fun j v hj => ?_⟩
    · rw [(hO 526 3 (z _ _ (by omega))).1]; exact h1
    · rw [(hO 527 k (z _ _ (by omega))).1]; exact h2 k hk
    · rw [(hO 526 6 (z _ _ (by omega))).1]; exact h5
    · rw [(hO 528 _ (z _ _ (by omega))).1]; exact h6 j v hj
theorem fJ.off {Z : Nat → Nat → Bool} {L : Lt} {r : Nat} {G G' : gP} (h : fJ L r G) (hO : gOff Z G G') (z : ∀ k j, 526 ≤ k ∧ k ≤ 528 → Z k j = false) : fJ L r G' :=
  ⟨by rw [(hO 526 1 (z _ _ (by omega))).1]; exact h.said, by rw [(hO 526 2 (z _ _ (by omega))).1]; exact h.snd, h.best.off hO (fun k j hk => z k j (by omega))⟩
theorem Lt.said_s {L : Lt} {r : Nat} {ns : List Nat} (h : L.ev r = some ns) : L.saidN (r + 1) = L.saidN r + 1 := by
  show (if L.ev r = none then _ else _) = _
  rw [if_neg (by rw [h]; simp)]
theorem Lt.sound_t {L : Lt} {r : Nat} (h : L.so r = true) : L.soundN (r + 1) = L.soundN r + 1 := by
  show (if L.so r = true then _ else _) = _
  rw [if_pos h]
theorem Lt.sound_f {L : Lt} {r : Nat} (h : L.so r = false) : L.soundN (r + 1) = L.soundN r := by
  show (if L.so r = true then _ else _) = _
  rw [if_neg (by rw [h]; decide)]
theorem Lt.best_f {L : Lt} {r : Nat} (h : L.so r = false) : L.bestR (r + 1) = L.bestR r := by
  show (if L.so r = true ∧ _ then _ else _) = _
  rw [if_neg (fun z => by rw [h] at z; cases z.1)]
theorem Lt.so_none {L : Lt} {r : Nat} (h : L.ev r = none) : L.so r = false := by unfold Lt.so; rw [h]
theorem fJ.skip {L : Lt} {r : Nat} {G : gP} (h : fJ L r G) (he : L.ev r = none) : fJ L (r + 1) G := by
  have hs := L.so_none he
  refine ⟨?_, by rw [L.sound_f hs]; exact h.snd, by rw [L.best_f hs]; exact h.best⟩
  show _ = nI (if L.ev r = none then _ else _)
  rw [if_pos he]; exact h.said
def f3Z (k _ : Nat) : Bool := decide (526 ≤ k ∧ k ≤ 528)
theorem first_sd {L : Lt} (hL : L.Wf) {r : Nat} {ns : List Nat} {G : gP} (hev : L.ev r = some ns) (hJ : fJ L r G) (hsd : sdP L r ns G) : Ok (f_X13_said G (nI (L.cost r))) (fun G' => fJ L (r + 1) G' ∧ gOff f3Z G G' ∧ rSame G G') := by
  unfold f_X13_said
  simp only [gLet_e]
  rw [hJ.said, nI_1, ← L.said_s hev]
  have hO1 : gOff (fun k j => decide (k = 526 ∧ j = 1)) G (gS1 G 526 1 (nI (L.saidN (r + 1)))) := gOff.rf.S1 (by simp)
  have hl1 : gOff f3Z G (gS1 G 526 1 (nI (L.saidN (r + 1)))) := hO1.w (fun k j z => by simp [f3Z] at z ⊢; omega)
  have hr1 : rSame G (gS1 G 526 1 (nI (L.saidN (r + 1)))) := rSame.rf.S1
  have g1 : gS (gS1 G 526 1 (nI (L.saidN (r + 1)))) 526 1 = nI (L.saidN (r + 1)) := gS_at
  generalize gS1 G 526 1 (nI (L.saidN (r + 1))) = G1 at *
  have hsd1 : sdP L r ns G1 := hsd.lis hL hO1 hr1 (fun k j hk => by simp; omega)
  refine Ok.bind (hsd1.so hL hev) (fun y hy => ?_)
  subst hy
  have g2 : gS G1 526 2 = nI (L.soundN r) := by rw [(hO1 526 2 rfl).1]; exact hJ.snd
  have hb1 : fBs L G1 (L.bestR r) := hJ.best.off hO1 (fun k j hk => by simp; omega)
  cases hs : L.so r with
  | false =>
    rw [if_pos (show bI false = 0 from rfl)]
    exact ⟨_, rfl, ⟨g1, by rw [L.sound_f hs]; exact g2, by rw [L.best_f hs]; exact hb1⟩, hl1, hr1⟩
  | true =>
    rw [if_neg (show ¬ bI true = 0 by decide), g2, nI_1, ← L.sound_t hs]
    have hO2 : gOff (fun k j => decide (k = 526 ∧ j = 2)) G1 (gS1 G1 526 2 (nI (L.soundN (r + 1)))) := gOff.rf.S1 (by simp)
    have hl2 : gOff f3Z G (gS1 G1 526 2 (nI (L.soundN (r + 1)))) := hl1.tr (hO2.w (fun k j z => by simp [f3Z] at z ⊢; omega))
    have hr2 : rSame G (gS1 G1 526 2 (nI (L.soundN (r + 1)))) := hr1.S1
    have g3 : gS (gS1 G1 526 2 (nI (L.soundN (r + 1)))) 526 1 = nI (L.saidN (r + 1)) := by rw [gS_ne (by decide)]; exact g1
    have g4 : gS (gS1 G1 526 2 (nI (L.soundN (r + 1)))) 526 2 = nI (L.soundN (r + 1)) := gS_at
    generalize gS1 G1 526 2 (nI (L.soundN (r + 1))) = G2 at *
    have hsd2 : sdP L r ns G2 := hsd1.lis hL hO2 (fun k j => (hr2 k j).trans (hr1 k j).symm) (fun k j hk => by simp; omega)
    have hb2 : fBs L G2 (L.bestR r) := hb1.off hO2 (fun k j hk => by simp; omega)
    have hcl := hL.cost_le r
    have hkeep : L.bestR (r + 1) = L.bestR r → Ok (Option.some G2) (fun G' => fJ L (r + 1) G' ∧ gOff f3Z G G' ∧ rSame G G') := fun e => ⟨_, rfl, ⟨g3, g4, by rw [e]; exact hb2⟩, hl2, hr2⟩
    have hnew : L.bestR (r + 1) = some r → Ok (Option.some (gS1 (gSc (gSc (gS1 G2 526 3 (nI (L.cost r))) 4 0 527 0 8) 2 0 528 0 8) 526 6 (gS (gSc (gSc (gS1 G2 526 3 (nI (L.cost r))) 4 0 527 0 8) 2 0 528 0 8) 0 5))) (fun G' => fJ L (r + 1) G' ∧ gOff f3Z G G' ∧ rSame G G') := by
      intro e
      have h8 := hL.n8
      refine ⟨_, rfl, ⟨?_, ?_, ?_⟩, ?_, ?_⟩
      · rw [gS_ne (by decide), gS_Sc_ne (by decide), gS_Sc_ne (by decide), gS_ne (by decide)]; exact g3
      · rw [gS_ne (by decide), gS_Sc_ne (by decide), gS_Sc_ne (by decide), gS_ne (by decide)]; exact g4
      · rw [e]
        have m5 : gS (gSc (gSc (gS1 G2 526 3 (nI (L.cost r))) 4 0 527 0 8) 2 0 528 0 8) 0 5 = nI ns.length := by
          rw [gS_Sc_ne (by decide), gS_Sc_ne (by decide), gS_ne (by decide)]; exact hsd2.many
        refine ⟨?_, fun k hk => ?_, ns, hev, hsd2.ok, by rw [gS_at]; exact m5, fun j v hj => ?_⟩
        · rw [gS_ne (by decide), gS_Sc_ne (by decide), gS_Sc_ne (by decide), gS_at]
        · rw [gS_ne (by omega), gS_Sc_ne (by decide), gS_Sc_in rfl (by omega) (by omega), gS_ne (by omega), Nat.zero_add, Nat.sub_zero]; exact hsd2.pk k hk
        · have hjl := (List.getElem?_eq_some_iff.mp hj).1
          have hok := hsd2.ok.2.1
          rw [gS_ne (by omega), gS_Sc_in rfl (by omega) (by omega), gS_Sc_ne (by decide), gS_ne (by omega)]
          have := hsd2.ns j v hj
          rw [Nat.zero_add] at this
          rw [show 0 + (0 + j - 0) = j by omega]
          exact this
      · exact (((hl2.S1 (by decide)).Sc (fun j _ _ => by simp [f3Z])).Sc (fun j _ _ => by simp [f3Z])).S1 (by decide)
      · exact (((hr2.S1).Sc).Sc).S1
    cases hbr : L.bestR r with
    | none =>
      rw [hbr] at hb2
      have hb3 : gS G2 526 3 = nI 1000000 := hb2
      rw [hb3, if_neg (nI_ge (by omega) (by decide))]
      refine hnew ?_
      show (if L.so r = true ∧ L.cost r < L.costO (L.bestR r) then _ else _) = _
      rw [if_pos ⟨hs, by rw [hbr]; show L.cost r < 9999; omega⟩]
    | some b =>
      rw [hbr] at hb2
      have hcb := hL.cost_le b
      rw [hb2.1]
      by_cases hlt : L.cost r < L.cost b
      · rw [if_neg (nI_ge hlt (by omega))]
        refine hnew ?_
        show (if L.so r = true ∧ L.cost r < L.costO (L.bestR r) then _ else _) = _
        rw [if_pos ⟨hs, by rw [hbr]; exact hlt⟩]
      · rw [if_pos (nI_le (by omega) (by omega))]
        refine hkeep ?_
        show (if L.so r = true ∧ L.cost r < L.costO (L.bestR r) then _ else _) = _
        rw [if_neg (fun z => hlt (by have := z.2; rw [hbr] at this; exact this))]
theorem first_LS {L : Lt} (hL : L.Wf) : LsP L 526 (fJ L) := by
  refine ⟨fun r ns G hr hev hJ hsd => ?_, fun r G _ he hJ => hJ.skip he, fun r G G' hJ hO _ => hJ.off hO (fun k j hk => by simp [wZ]; omega)⟩
  unfold fSd
  rw [if_pos rfl]
  refine (first_sd hL hev hJ hsd).imp ?_
  rintro G' ⟨a, b, c⟩
  exact ⟨a, b.w (fun k j z => by simp [f3Z, liZ] at z ⊢; omega), c⟩
/-- what a question leaves -/
def qP (G G' : gP) : Prop := gOff cqZ G G' ∧ rSame G G'
theorem qP.tr {G G1 G2 : gP} (h : qP G G1) (h2 : qP G1 G2) : qP G G2 := ⟨h.1.tr h2.1, h.2.tr h2.2⟩
theorem qP.rf {G : gP} : qP G G := ⟨gOff.rf, rSame.rf⟩
theorem qP.now {G G' : gP} {L : Lt} (h : qP G G') (hL : L.Wf) (hN : xNow G L) : xNow G' L := hN.q hL h.1 h.2 (fun k j => cqZ_32)
theorem cqZ_l {k j : Nat} (h : cqZ k j = false) : liZ k j = false := by simp only [cqZ, Bool.or_eq_false_iff] at h; exact h.2
theorem qP.mk13 (G : gP) : qP G (xMk13 G) := by
  unfold xMk13
  exact ⟨((gOff.rf.Sa (fun j => by simp [cqZ, liZ])).Sa (fun j => by simp [cqZ, liZ])).Sa (fun j => by simp [cqZ, liZ]), ((rSame.rf.Sa).Sa).Sa⟩
theorem fJ_0 {L : Lt} (G : gP) : fJ L 0 (xMk13 G) := by
  unfold xMk13
  refine ⟨?_, ?_, ?_⟩
  · rw [gS_Sa, if_pos rfl, if_neg (by decide)]; rfl
  · rw [gS_Sa, if_pos rfl, if_neg (by decide)]; rfl
  · show gS _ 526 3 = nI 1000000
    rw [gS_Sa, if_pos rfl, if_pos rfl]; rfl
theorem first_ok {L : Lt} {G : gP} (hL : L.Wf) (hN : xNow G L) (hK : xRk G) : Ok (f_X0_first G) (fun G' => fJ L L.N G' ∧ qP G G') := by
  unfold f_X0_first
  rw [gDec_t hK, gck_t]
  simp only [gLet_e, obs]
  have hq := qP.mk13 G
  refine (listen_ok hL (first_LS hL) (hq.now hL hN) (fJ_0 G)).imp ?_
  rintro G' ⟨a, b, c⟩
  exact ⟨a, hq.tr ⟨b, c⟩⟩
theorem isAny_I {L : Lt} {G : gP} (hL : L.Wf) (h : fJ L L.N G) : f_X13_isAny G = bI (L.B.isSome) := by
  unfold f_X13_isAny
  rw [h.snd]
  have hl := L.soundN_le L.N
  have hN := hL.N_le
  unfold Lt.B
  cases hb : L.bestR L.N with
  | none =>
    rw [(L.soundN_0 hL L.N).mpr hb, if_pos (show nI 0 ≤ 0 by decide)]; rfl
  | some b =>
    have : L.soundN L.N ≠ 0 := fun z => by have := (L.soundN_0 hL L.N).mp z; rw [hb] at this; cases this
    rw [if_neg (nI_nle (by omega) (by omega))]; rfl
theorem fJ.bn {L : Lt} {G : gP} {b : Nat} (h : fJ L L.N G) (hb : L.B = some b) : gS G 526 3 = nI (L.cost b) ∧ (∀ k, k < L.n → gS G 527 k = nI (L.pk b k)) ∧ gS G 526 6 = nI L.bn.length ∧ aL G 528 0 L.bn ∧ nsOk L.bn ∧ L.ev b = some L.bn := by
  have hh := h.best
  unfold Lt.B at hb
  rw [hb] at hh
  obtain ⟨h1, h2, ns, h3, h4, h5, h6⟩ := hh
  have e : L.bn = ns := L.bn_some hb h3
  rw [e]
  exact ⟨h1, h2, h5, h6, h4, h3⟩
/-- an answer of a question -/
def qA {α : Type} (G : gP) (v : α) (q : gP × α) : Prop := qP G q.1 ∧ q.2 = v
theorem xbest_ok {G : gP} {L : Lt} (hL : L.Wf) (hN : xNow G L) (hK : xRk G) (a : Int32) : Ok (f_X0_best G a) (qA G (sBest L a)) := by
  unfold f_X0_best sBest
  by_cases ha : (-2 : Int32) ≤ a
  · rw [if_pos ha, if_pos ha]
    refine Ok.bind (first_ok hL hN hK) (fun G1 h1 => ?_)
    rw [isAny_I hL h1.1]
    cases hB : L.B with
    | none => rw [if_pos (show bI (none : Option Nat).isSome = 0 from rfl)]; exact ⟨_, rfl, h1.2, rfl⟩
    | some b =>
      rw [if_neg (show ¬ bI (some b).isSome = 0 by show ¬ bI true = 0; decide)]
      obtain ⟨b1, b2, b3, b4, b5, b6⟩ := h1.1.bn hB
      simp only
      by_cases a2 : a = -2
      · subst a2
        rw [if_pos rfl, if_neg (by decide), if_pos rfl]
        exact ⟨_, rfl, h1.2, b3⟩
      · rw [if_neg a2, if_neg a2]
        by_cases a1 : a = -1
        · rw [if_pos a1, if_pos a1]; exact ⟨_, rfl, h1.2, b1⟩
        · rw [if_neg a1, if_neg a1, b3]
          have hnn : ¬ a < 0 := by
            intro z
            have x1 := Int32.le_iff_toInt_le.mp ha
            have x2 := Int32.lt_iff_toInt_lt.mp z
            have x3 : ((-2 : Int32)).toInt = -2 := by decide
            have x4 : ((0 : Int32)).toInt = 0 := by decide
            have y1 : a.toInt ≠ -2 := fun e => a2 (Int32.toInt_inj.mp (e.trans x3.symm))
            have y2 : a.toInt ≠ -1 := fun e => a1 (Int32.toInt_inj.mp (e.trans (show (-1 : Int) = ((-1 : Int32)).toInt by decide)))
            omega
          obtain ⟨j, hj, rfl⟩ := nI_of hnn
          have h8 := b5.2.1
          rw [rg_nI hj]
          by_cases hjl : j < L.bn.length
          · rw [if_neg (nI_ge hjl (by omega)), if_pos ⟨by omega, hjl⟩, gIn_t hj (by omega), gck_t, nI_clamp hj]
            have := nsF_aL b4 hjl
            rw [Nat.zero_add] at this
            exact ⟨_, rfl, h1.2, this⟩
          · rw [if_pos (nI_le (by omega) hj), if_neg (fun z => hjl z.2)]
            exact ⟨_, rfl, h1.2, rfl⟩
  · rw [if_neg ha, if_neg ha]; exact ⟨_, rfl, qP.rf, rfl⟩
theorem xtaken_ok {G : gP} {L : Lt} (hL : L.Wf) (hN : xNow G L) (hK : xRk G) (a : Int32) : Ok (f_X0_taken G a) (qA G (sTaken L a)) := by
  unfold f_X0_taken sTaken
  have h8 := hL.n8
  rw [xisSlot_rg h8 hN.1.1]
  cases ha : rg a 0 L.n with
  | none => exact ⟨_, rfl, qP.rf, rfl⟩
  | some k =>
    obtain ⟨-, hk, rfl⟩ := rg_some ha
    simp only [Option.isSome_some, if_true]
    rw [if_neg (by decide)]
    refine Ok.bind (first_ok hL hN hK) (fun G1 h1 => ?_)
    rw [isAny_I hL h1.1]
    have hN1 := h1.2.now hL hN
    cases hB : L.B with
    | none => rw [if_pos (show bI (none : Option Nat).isSome = 0 from rfl)]; exact ⟨_, rfl, h1.2, rfl⟩
    | some b =>
      rw [if_neg (show ¬ bI (some b).isSome = 0 by show ¬ bI true = 0; decide)]
      obtain ⟨b1, b2, b3, b4, b5, b6⟩ := h1.1.bn hB
      have hm := hL.m1 k hk
      have hp := hL.pk_lt (r := b) hk
      rw [gIn_t (by omega) (by omega), gck_t, nI_clamp (by omega), hN1.2.ref0 (by omega)]
      simp only [obind_some]
      rw [b2 k hk, gIn_t (by omega) (by omega), gck_t, gck_t, nI_clamp (by omega)]
      exact ⟨_, rfl, h1.2, ((hN1.1.2.2.2.2 k hk).2 _ hp).1⟩
end
section
/-! those that count: what Counted holds -/
theorem nsF_ge {ns : List Nat} {k : Nat} (h : ns.length ≤ k) : nsF ns k = 0 := by
  unfold nsF
  rw [List.getD_eq_getElem?_getD, List.getElem?_eq_none h]; rfl
theorem Lt.lst_ns {L : Lt} {r : Nat} {ns : List Nat} (he : L.ev r = some ns) : L.lst r = nsF ns (ns.length - 1) := by
  unfold Lt.lst nsF
  rw [he]
  show ns.getLastD 0 = _
  rw [List.getD_eq_getElem?_getD, List.getLastD_eq_getLast?, List.getLast?_eq_getElem?]
/-- one that is asked about, as it is laid -/
def akP (L : Lt) (G : gP) (i q : Nat) : Prop := (∃ ns, L.ev q = some ns ∧ nsOk ns ∧ gS G 7 i = nI ns.length ∧ ∀ k, k < 8 → gS G 6 (8 * i + k) = nI (nsF ns k)) ∧ ∀ k, k < L.n → gS G 5 (8 * i + k) = nI (L.w k (L.pk q k))
def kMo (L : Lt) : Int32 := match L.B with
  | none => -4
  | some b => nI (L.cost b + L.slack)
def opW (L : Lt) (l : List Nat) (k : Nat) : Int64 := bS (fun w => decide (0 < L.hv l k w)) 32
def kJ (L : Lt) (wt : Int32) (r : Nat) (G : gP) : Prop := (gS G 529 1 = kMo L) ∧ (gS G 529 4 = wt) ∧ (gS G 529 2 = nI (L.cl r).length) ∧ (∀ k, k < L.n → gL G 530 k = opW L (L.cl r) k) ∧ (∀ i q, i < 60 → (L.cl r)[i]? = some q → akP L G i q) ∧ (∀ t q, wt = nI t → t < 2 ^ 31 → (L.cl r)[t]? = some q → gS G 529 5 = nI (L.cost q) ∧ gS G 529 6 = nI (L.lst q))
theorem kJ.most {L : Lt} {wt : Int32} {r : Nat} {G : gP} (h : kJ L wt r G) : (gS G 529 1 = kMo L) := h.1
theorem kJ.wt {L : Lt} {wt : Int32} {r : Nat} {G : gP} (h : kJ L wt r G) : (gS G 529 4 = wt) := h.2.1
theorem kJ.many {L : Lt} {wt : Int32} {r : Nat} {G : gP} (h : kJ L wt r G) : (gS G 529 2 = nI (L.cl r).length) := h.2.2.1
theorem kJ.opn {L : Lt} {wt : Int32} {r : Nat} {G : gP} (h : kJ L wt r G) : (∀ k, k < L.n → gL G 530 k = opW L (L.cl r) k) := h.2.2.2.1
theorem kJ.asked {L : Lt} {wt : Int32} {r : Nat} {G : gP} (h : kJ L wt r G) : (∀ i q, i < 60 → (L.cl r)[i]? = some q → akP L G i q) := h.2.2.2.2.1
theorem kJ.want {L : Lt} {wt : Int32} {r : Nat} {G : gP} (h : kJ L wt r G) : (∀ t q, wt = nI t → t < 2 ^ 31 → (L.cl r)[t]? = some q → gS G 529 5 = nI (L.cost q) ∧ gS G 529 6 = nI (L.lst q)) := h.2.2.2.2.2
theorem akP.off {Z : Nat → Nat → Bool} {L : Lt} {G G' : gP} {i q : Nat} (h : akP L G i q) (h8 : L.n ≤ 8) (hO : gOff Z G G') (z7 : Z 7 i = false) (z : ∀ k j, k = 5 ∨ k = 6 → 8 * i ≤ j → j < 8 * i + 8 → Z k j = false) : akP L G' i q := by
  obtain ⟨⟨ns, h1, h2, h3, h4⟩, h5⟩ := h
  refine ⟨⟨ns, h1, h2, by rw [(hO 7 i z7).1]; exact h3, fun k hk => ?_⟩, fun k hk => ?_⟩
  · rw [(hO 6 _ (z _ _ (by omega) (by omega) (by omega))).1]; exact h4 k hk
  · rw [(hO 5 _ (z _ _ (by omega) (by omega) (by omega))).1]; exact h5 k hk
theorem kJ.off {Z : Nat → Nat → Bool} {L : Lt} {wt : Int32} {r : Nat} {G G' : gP} (h : kJ L wt r G) (hL : L.Wf) (hO : gOff Z G G') (z : ∀ k j, k = 5 ∨ k = 6 ∨ k = 7 ∨ k = 529 ∨ k = 530 → Z k j = false) : kJ L wt r G' := by
  refine ⟨?_, ?_, ?_, fun k hk => ?_, fun i q hi hq => (h.asked i q hi hq).off hL.n8 hO (z _ _ (by omega)) (fun k j hk _ _ => z _ _ (by omega)), fun t q e ht hq => ⟨?_, ?_⟩⟩
  · rw [(hO 529 1 (z _ _ (by omega))).1]; exact h.most
  · rw [(hO 529 4 (z _ _ (by omega))).1]; exact h.wt
  · rw [(hO 529 2 (z _ _ (by omega))).1]; exact h.many
  · rw [(hO 530 k (z _ _ (by omega))).2.1]; exact h.opn k hk
  · rw [(hO 529 5 (z _ _ (by omega))).1]; exact (h.want t q e ht hq).1
  · rw [(hO 529 6 (z _ _ (by omega))).1]; exact (h.want t q e ht hq).2
theorem Lt.cl_f {L : Lt} {r : Nat} (h : L.cnt r = false) : L.cl (r + 1) = L.cl r := by
  show (if L.cnt r = true then _ else _) = _
  rw [if_neg (by rw [h]; decide)]
theorem Lt.cl_t {L : Lt} {r : Nat} (h : L.cnt r = true) : L.cl (r + 1) = L.cl r ++ [r] := by
  show (if L.cnt r = true then _ else _) = _
  rw [if_pos h]
theorem kJ.keep {L : Lt} {wt : Int32} {r : Nat} {G : gP} (h : kJ L wt r G) (hc : L.cnt r = false) : kJ L wt (r + 1) G := by
  have e := L.cl_f hc
  exact ⟨h.most, h.wt, by rw [e]; exact h.many, by rw [e]; exact h.opn, by rw [e]; exact h.asked, by rw [e]; exact h.want⟩
theorem opW_s {L : Lt} (l : List Nat) {r k : Nat} (hw : L.w k (L.pk r k) < 32) : opW L l k ||| gShlL 1 (nI (L.w k (L.pk r k))) = opW L (l ++ [r]) k := by
  unfold opW
  apply bt_ext
  intro t ht
  rw [bt_or, bS_b _ 32 (by omega), bS_b _ 32 (by omega), bt_1 (by omega), L.hv_s]
  by_cases e : t = L.w k (L.pk r k)
  · rw [decide_eq_true e, if_pos e.symm, decide_eq_true (show t < 32 by omega), decide_eq_true (show 0 < L.hv l k t + 1 by omega)]
    simp
  · rw [decide_eq_false e, if_neg (fun z => e z.symm), Nat.add_zero, Bool.or_false]
/-- the words of a reading are open -/
theorem opn_ok {L : Lt} (hL : L.Wf) {r : Nat} {ns : List Nat} {G : gP} (hs : sdP L r ns G) : Ok (gloop (f_X14_said_b18) gFu (G, (0 : Int32))) (fun G' => gOff (fun k _ => decide (k = 530)) G G' ∧ rSame G G' ∧ ∀ k, k < L.n → gL G' 530 k = gL G 530 k ||| gShlL 1 (nI (L.w k (L.pk r k)))) := by
  have h8 := hL.n8
  refine Ok.up (fun i s => s.2 = nI i ∧ gOff (fun k _ => decide (k = 530)) G s.1 ∧ rSame G s.1 ∧ (∀ k, k < i → gL s.1 530 k = gL G 530 k ||| gShlL 1 (nI (L.w k (L.pk r k)))) ∧ ∀ k, i ≤ k → gL s.1 530 k = gL G 530 k) L.n (by omega) ?_ ?_ ⟨rfl, gOff.rf, rSame.rf, fun k hk => by omega, fun k _ => rfl⟩
  · rintro i ⟨G1, x⟩ hi ⟨hx, hO, hr, ho, hl⟩
    simp only at hx hO hr ho hl
    subst hx
    unfold f_X14_said_b18
    have hs1 : sdP L r ns G1 := hs.lis hL hO hr (fun k j hk => by simp; omega)
    have hsl := hs1.now.1.2.2.2.2 i hi
    have hp := hL.pk_lt (r := r) hi
    have hm := hL.m1 i hi
    simp only
    rw [hs1.now.1.1, if_neg (nI_ge hi (by omega)), gIn_t (by omega) (by omega), gck_t, gck_t, nI_clamp (by omega), hs1.now.2.ref0 (by omega)]
    simp only [obind_some]
    rw [gck_t, gck_t, hs1.pk i hi, gIn_t (by omega) (by omega), gck_t, nI_clamp (by omega), (hsl.2 _ hp).1]
    simp only [gLet_e]
    refine ⟨_, rfl, nI_1 i, hO.L1 (by simp), hr.L1, fun k hk => ?_, fun k hk => ?_⟩
    · simp only
      rw [gL_L1]
      by_cases e : k = i
      · subst e; rw [if_pos ⟨rfl, rfl⟩, hl k (Nat.le_refl _)]
      · rw [if_neg (fun z => e z.2)]; exact ho k (by omega)
    · simp only
      rw [gL_L1, if_neg (fun z => by omega)]; exact hl k (by omega)
  · rintro ⟨G1, x⟩ ⟨hx, hO, hr, ho, hl⟩
    simp only at hx hO hr ho hl
    subst hx
    unfold f_X14_said_b18
    have hs1 : sdP L r ns G1 := hs.lis hL hO hr (fun k j hk => by simp; omega)
    simp only
    rw [hs1.now.1.1, if_pos (nI_le (Nat.le_refl _) (by omega))]
    exact ⟨_, rfl, hO, hr, ho⟩
/-- a reading is laid among those that may be asked about -/
theorem lay_ok {L : Lt} (hL : L.Wf) {r : Nat} {ns : List Nat} {G : gP} (hs : sdP L r ns G) (hev : L.ev r = some ns) {t : Nat} (ht : t < 60) (h2 : gS G 529 2 = nI t) : Ok (f_X14_lay G) (fun G' => gOff (fun k j => decide ((k = 7 ∧ j = t) ∨ ((k = 5 ∨ k = 6) ∧ 8 * t ≤ j ∧ j < 8 * t + 8))) G G' ∧ rSame G G' ∧ akP L G' t r) := by
  have h8 := hL.n8
  have hok := hs.ok
  unfold f_X14_lay
  rw [h2, gIn_t (by omega) ht, gck_t, nI_clamp (by omega), hs.many]
  simp only [gLet_e, obs]
  have hO0 : gOff (fun k j => decide ((k = 7 ∧ j = t) ∨ ((k = 5 ∨ k = 6) ∧ 8 * t ≤ j ∧ j < 8 * t + 8))) G (gS1 G 7 t (nI ns.length)) := gOff.rf.S1 (by simp)
  refine Ok.up (fun i s => s.2 = nI i ∧ gOff (fun k j => decide ((k = 7 ∧ j = t) ∨ ((k = 5 ∨ k = 6) ∧ 8 * t ≤ j ∧ j < 8 * t + 8))) G s.1 ∧ rSame G s.1 ∧ gS s.1 7 t = nI ns.length ∧ (∀ k, k < i → gS s.1 6 (8 * t + k) = nI (nsF ns k)) ∧ ∀ k, k < i → k < L.n → gS s.1 5 (8 * t + k) = nI (L.w k (L.pk r k))) 8 (by decide) ?_ ?_ ⟨rfl, hO0, rSame.rf.S1, gS_at, fun k hk => by omega, fun k hk => by omega⟩
  · rintro i ⟨G1, x⟩ hi ⟨hx, hO, hr, g7, g6, g5⟩
    simp only at hx hO hr g7 g6 g5
    subst hx
    unfold f_X14_lay_b21
    have hs1 : sdP L r ns G1 := hs.lis hL hO hr (fun k j hk => by simp; omega)
    have k2 : gS G1 529 2 = nI t := by rw [(hO 529 2 (by simp)).1]; exact h2
    simp only
    rw [if_neg (show ¬ (8 : Int32) ≤ nI i from nI_ge (b := 8) hi (by decide)), hs1.now.1.1, k2]
    have key : ∀ wd : Nat, (i < L.n → wd = L.w i (L.pk r i)) → Ok (gck (gIn (8 * nI t + nI i) 480) (gLet (gS1 G1 5 (8 * nI t + nI i).toNatClampNeg (nI wd)) fun G14 => if gS G14 0 5 ≤ nI i then gck (gIn (8 * gS G14 529 2 + nI i) 480) (gLet (gS1 G14 6 (8 * gS G14 529 2 + nI i).toNatClampNeg 0) fun G18 => some (Sum.inl (G18, nI i + 1))) else gck (gIn (nI i) 8) (gck (gIn (8 * gS G14 529 2 + nI i) 480) (gLet (gS1 G14 6 (8 * gS G14 529 2 + nI i).toNatClampNeg (gS G14 2 (nI i).toNatClampNeg)) fun G22 => some (Sum.inl (G22, nI i + 1)))))) (fun q : (gP × Int32) ⊕ gP => match q with | Sum.inl s => s.2 = nI (i + 1) ∧ gOff (fun k j => decide ((k = 7 ∧ j = t) ∨ ((k = 5 ∨ k = 6) ∧ 8 * t ≤ j ∧ j < 8 * t + 8))) G s.1 ∧ rSame G s.1 ∧ gS s.1 7 t = nI ns.length ∧ (∀ k, k < i + 1 → gS s.1 6 (8 * t + k) = nI (nsF ns k)) ∧ ∀ k, k < i + 1 → k < L.n → gS s.1 5 (8 * t + k) = nI (L.w k (L.pk r k)) | Sum.inr _ => False) := by
      intro wd hwd
      have e8 : (8 : Int32) * nI t + nI i = nI (8 * t + i) := by rw [nI_lit 8, pk_mul, nI_add]
      rw [e8, gIn_t (by omega) (by omega), gck_t, nI_clamp (by omega)]
      simp only [gLet_e]
      rw [gS_ne (by omega), gS_ne (by omega), k2, e8, gIn_t (by omega) (by omega), gck_t, nI_clamp (by omega), hs1.many, gIn_t (show i < 2 ^ 31 by omega) hi, gck_t, gck_t, nI_clamp (by omega), gS_ne (by omega)]
      have fin : ∀ v : Nat, v = nsF ns i → Ok (some (Sum.inl (gS1 (gS1 G1 5 (8 * t + i) (nI wd)) 6 (8 * t + i) (nI v), nI i + 1))) (fun q : (gP × Int32) ⊕ gP => match q with | Sum.inl s => s.2 = nI (i + 1) ∧ gOff (fun k j => decide ((k = 7 ∧ j = t) ∨ ((k = 5 ∨ k = 6) ∧ 8 * t ≤ j ∧ j < 8 * t + 8))) G s.1 ∧ rSame G s.1 ∧ gS s.1 7 t = nI ns.length ∧ (∀ k, k < i + 1 → gS s.1 6 (8 * t + k) = nI (nsF ns k)) ∧ ∀ k, k < i + 1 → k < L.n → gS s.1 5 (8 * t + k) = nI (L.w k (L.pk r k)) | Sum.inr _ => False) := by
        rintro v rfl
        refine ⟨_, rfl, nI_1 i, (hO.S1 (by simp; omega)).S1 (by simp; omega), (hr.S1).S1, ?_, fun k hk => ?_, fun k hk hkn => ?_⟩
        · simp only
          rw [gS_ne (by omega), gS_ne (by omega)]; exact g7
        · simp only
          by_cases e : k = i
          · subst e; rw [gS_at]
          · rw [gS_ne (by omega), gS_ne (by omega)]; exact g6 k (by omega)
        · simp only
          rw [gS_ne (by omega)]
          by_cases e : k = i
          · subst e; rw [gS_at, hwd hkn]
          · rw [gS_ne (by omega)]; exact g5 k (by omega) hkn
      have hl8 := hok.2.1
      by_cases hin : i < ns.length
      · rw [if_neg (nI_ge hin (by omega))]
        have := nsF_aL hs1.ns hin
        rw [Nat.zero_add] at this
        rw [this]
        exact fin _ rfl
      · rw [if_pos (nI_le (by omega) (by omega))]
        exact fin 0 (nsF_ge (by omega)).symm
    by_cases hin : i < L.n
    · rw [if_neg (nI_ge hin (by omega)), gIn_t (by omega) (by omega), gck_t, nI_clamp (by omega), hs1.now.2.ref0 (by omega)]
      simp only [obind_some]
      have hp := hL.pk_lt (r := r) hin
      have hm := hL.m1 i hin
      rw [gck_t, hs1.pk i hin, gIn_t (show L.pk r i < 2 ^ 31 by omega) (by omega), gck_t, nI_clamp (show L.pk r i < 2 ^ 31 by omega), ((hs1.now.1.2.2.2.2 i hin).2 _ hp).1]
      have := key _ (fun _ => rfl)
      rw [gIn_t (show i < 2 ^ 31 by omega) hi, nI_clamp (show i < 2 ^ 31 by omega)] at this
      rw [obind_some]
      refine this.imp ?_
      intro q hq
      cases q with
      | inl s => exact hq
      | inr x => exact hq
    · rw [if_pos (nI_le (by omega) (by omega)), obind_some]
      refine (key 0 (fun z => (hin z).elim)).imp ?_
      intro q hq
      cases q with
      | inl s => exact hq
      | inr x => exact hq
  · rintro ⟨G1, x⟩ ⟨hx, hO, hr, g7, g6, g5⟩
    simp only at hx hO hr g7 g6 g5
    subst hx
    unfold f_X14_lay_b21
    simp only
    rw [if_pos (show (8 : Int32) ≤ nI 8 by decide)]
    exact ⟨_, rfl, hO, hr, ⟨ns, hev, hok, g7, g6⟩, fun k hk => g5 k (by omega) hk⟩
end
section
/-! those that count: Counted listens; counted, open -/
theorem kJ.said {L : Lt} (hL : L.Wf) {wt : Int32} {r : Nat} {ns : List Nat} {G : gP} (hr : r < L.N) (hev : L.ev r = some ns) (hJ : kJ L wt r G) (hs : sdP L r ns G) (hc : L.cnt r = true) :
    Ok ((gloop (f_X14_said_b18) gFu (G, (0 : Int32))).bind fun q7 => Option.bind (if (60 : Int32) ≤ (gS q7 529 2) then some q7 else (f_X14_lay q7).bind fun q37 => some q37) fun q22 => Option.bind (if (gS q22 529 2) = (gS q22 529 4) then gLet (gS1 q22 529 5 (nI (L.cost r))) fun G31 => gck (gIn ((gS G31 0 5) - (1 : Int32)) 8) (gLet (gS1 G31 529 6 (gS G31 2 ((gS G31 0 5) - (1 : Int32)).toNatClampNeg)) fun G34 => some G34) else some q22) fun q25 => gLet (gS1 q25 529 2 ((gS q25 529 2) + (1 : Int32))) fun G28 => some G28) (fun G' => kJ L wt (r + 1) G' ∧ gOff liZ G G' ∧ rSame G G') := by
  have hN := hL.N_le
  have hlen := L.cl_len r
  have h8 := hL.n8
  refine Ok.bind (opn_ok hL hs) (fun G1 h1 => ?_)
  obtain ⟨hO1, hr1, ho1⟩ := h1
  have hs1 : sdP L r ns G1 := hs.lis hL hO1 hr1 (fun k j hk => by simp; omega)
  have hl1 : gOff liZ G G1 := hO1.w (fun k j z => by simp [liZ] at z ⊢; omega)
  have m1 : gS G1 529 2 = nI (L.cl r).length := by rw [(hO1 529 2 (by simp)).1]; exact hJ.many
  have hopn : ∀ k, k < L.n → gL G1 530 k = opW L (L.cl (r + 1)) k := fun k hk => by
    rw [ho1 k hk, hJ.opn k hk, opW_s _ (hL.w32 k _ hk (hL.pk_lt hk)), L.cl_t hc]
  -- laid, if there is room
  refine Ok.bind (Q := fun G2 => gOff (fun k j => decide (k = 5 ∨ k = 6 ∨ k = 7)) G1 G2 ∧ rSame G1 G2 ∧ ∀ i q, i < 60 → (L.cl r ++ [r])[i]? = some q → akP L G2 i q) ?_ (fun G2 h2 => ?_)
  · have hold : ∀ i q, i < 60 → (L.cl r)[i]? = some q → akP L G1 i q := fun i q hi hq => (hJ.asked i q hi hq).off h8 hO1 (by simp) (fun k j hk _ _ => by simp; omega)
    rw [m1]
    by_cases h60 : 60 ≤ (L.cl r).length
    · rw [if_pos (show (60 : Int32) ≤ nI (L.cl r).length from nI_le (a := 60) h60 (by omega))]
      refine ⟨_, rfl, gOff.rf, rSame.rf, fun i q hi hq => hold i q hi ?_⟩
      rw [List.getElem?_append_left (by omega)] at hq; exact hq
    · rw [if_neg (show ¬ (60 : Int32) ≤ nI (L.cl r).length from nI_ge (b := 60) (by omega) (by decide)), obs]
      refine (lay_ok hL hs1 hev (show (L.cl r).length < 60 by omega) m1).imp ?_
      rintro G2 ⟨a, b, c⟩
      refine ⟨a.w (fun k j z => by simp at z ⊢; omega), b, fun i q hi hq => ?_⟩
      by_cases e : i = (L.cl r).length
      · subst e
        rw [List.getElem?_append_right (Nat.le_refl _), Nat.sub_self] at hq
        cases hq
        exact c
      · have hil : i < (L.cl r).length := by have := (List.getElem?_eq_some_iff.mp hq).1; simp at this; omega
        rw [List.getElem?_append_left hil] at hq
        exact (hold i q hi hq).off h8 a (by simp; omega) (fun k j hk h1 h2 => by simp; omega)
  obtain ⟨hO2, hr2, ha2⟩ := h2
  have hs2 : sdP L r ns G2 := hs1.lis hL hO2 hr2 (fun k j hk => by simp; omega)
  have hl2 : gOff liZ G G2 := hl1.tr (hO2.w (fun k j z => by simp [liZ] at z ⊢; omega))
  have hr02 := hr1.tr hr2
  have c2 : ∀ j, gS G2 529 j = gS G 529 j := fun j => by rw [(hO2 529 j (by simp)).1, (hO1 529 j (by simp)).1]
  have o2 : ∀ k, k < L.n → gL G2 530 k = opW L (L.cl (r + 1)) k := fun k hk => by rw [(hO2 530 k (by simp)).2.1]; exact hopn k hk
  -- wanted
  refine Ok.bind (Q := fun G3 => gOff (fun k j => decide (k = 529 ∧ (j = 5 ∨ j = 6))) G2 G3 ∧ rSame G2 G3 ∧ ∀ t q, wt = nI t → t < 2 ^ 31 → (L.cl r ++ [r])[t]? = some q → gS G3 529 5 = nI (L.cost q) ∧ gS G3 529 6 = nI (L.lst q)) ?_ (fun G3 h3 => ?_)
  · rw [c2, c2, hJ.many, hJ.wt]
    by_cases hw : nI (L.cl r).length = wt
    · rw [if_pos hw]
      simp only [gLet_e]
      have hok := hs2.ok
      have e5 : gS (gS1 G2 529 5 (nI (L.cost r))) 0 5 - 1 = nI (ns.length - 1) := by
        rw [gS_ne (by decide), hs2.many, nI_lit 1, pk_sub hok.1]
      have h8n := hok.2.1
      have h0n := hok.1
      have e6 : gS (gS1 G2 529 5 (nI (L.cost r))) 2 (ns.length - 1) = nI (L.lst r) := by
        rw [gS_ne (by omega), L.lst_ns hev]
        have := nsF_aL hs2.ns (show ns.length - 1 < ns.length by omega)
        rw [Nat.zero_add] at this
        exact this
      rw [e5, gIn_t (by omega) (by omega), gck_t, nI_clamp (by omega), e6]
      refine ⟨_, rfl, (gOff.rf.S1 (by simp)).S1 (by simp), (rSame.rf.S1).S1, fun t q e ht hq => ?_⟩
      have htl : t = (L.cl r).length := ((nI_eq (by omega) ht).mp (hw.trans e)).symm
      subst htl
      rw [List.getElem?_append_right (Nat.le_refl _), Nat.sub_self] at hq
      cases hq
      refine ⟨?_, gS_at⟩
      rw [gS_ne (by decide), gS_at]
    · rw [if_neg hw]
      refine ⟨_, rfl, gOff.rf, rSame.rf, fun t q e ht hq => ?_⟩
      have htl : t ≠ (L.cl r).length := fun z => hw (by rw [e, z])
      have hil : t < (L.cl r).length := by have := (List.getElem?_eq_some_iff.mp hq).1; simp at this; omega
      rw [List.getElem?_append_left hil] at hq
      rw [c2, c2]
      exact hJ.want t q e ht hq
  obtain ⟨hO3, hr3, hw3⟩ := h3
  simp only [gLet_e]
  have m3 : gS G3 529 2 = nI (L.cl r).length := by rw [(hO3 529 2 (by simp)).1, c2]; exact hJ.many
  rw [m3, nI_1]
  have hO4 : gOff (fun k j => decide (k = 529)) G2 (gS1 G3 529 2 (nI ((L.cl r).length + 1))) := (hO3.w (fun k j z => by simp at z ⊢; omega)).S1 (by simp)
  refine ⟨_, rfl, ⟨?_, ?_, ?_, fun k hk => ?_, ?_, ?_⟩, hl2.tr (hO4.w (fun k j z => by simp [liZ] at z ⊢; omega)), (hr02.tr hr3).S1⟩
  · rw [gS_ne (by decide), (hO3 529 1 (by simp)).1, c2]; exact hJ.most
  · rw [gS_ne (by decide), (hO3 529 4 (by simp)).1, c2]; exact hJ.wt
  · rw [gS_at, L.cl_t hc, List.length_append, List.length_singleton]
  · rw [gL_S1, (hO3 530 k (by simp)).2.1]; exact o2 k hk
  · rw [L.cl_t hc]
    exact fun i q hi hq => (ha2 i q hi hq).off h8 hO4 (by simp) (fun k j hk _ _ => by simp; omega)
  · rw [L.cl_t hc]
    intro t q e ht hq
    have := hw3 t q e ht hq
    refine ⟨?_, ?_⟩
    · rw [gS_ne (by decide)]; exact this.1
    · rw [gS_ne (by decide)]; exact this.2
theorem m4_lt {a : Nat} (h : a < 2 ^ 31) : (-4 : Int32) < nI a := by
  rw [Int32.lt_iff_toInt_lt, nI_toInt h]
  have : ((-4 : Int32)).toInt = -4 := by decide
  omega
theorem Lt.cnt_B {L : Lt} {b r : Nat} (hb : L.B = some b) : L.cnt r = (L.so r && decide (L.cost r ≤ L.cost b + L.slack)) := by
  unfold Lt.cnt
  rw [hb]; rfl
theorem counted_LS {L : Lt} (hL : L.Wf) (wt : Int32) : LsP L 529 (kJ L wt) := by
  refine ⟨fun r ns G hr hev hJ hs => ?_, fun r G _ he hJ => hJ.keep (by unfold Lt.cnt; rw [L.so_none he]; rfl), fun r G G' hJ hO _ => hJ.off hL hO (fun k j hk => by simp [wZ]; omega)⟩
  unfold fSd
  rw [if_neg (by decide), if_pos rfl]
  unfold f_X14_said
  rw [hJ.most]
  unfold kMo
  have hcr := hL.cost_le r
  cases hB : L.B with
  | none =>
    simp only
    rw [if_pos (m4_lt (by omega))]
    refine ⟨_, rfl, hJ.keep ?_, gOff.rf, rSame.rf⟩
    unfold Lt.cnt
    rw [hL.none_so L.N hB r hr]; rfl
  | some b =>
    simp only
    have hcb := hL.cost_le b
    have hsl := hL.s20
    have hcn := L.cnt_B (r := r) hB
    by_cases hlt : L.cost b + L.slack < L.cost r
    · rw [if_pos (nI_lt hlt (by omega))]
      exact ⟨_, rfl, hJ.keep (by rw [hcn, decide_eq_false (by omega), Bool.and_false]), gOff.rf, rSame.rf⟩
    · rw [if_neg (nI_nlt (by omega) (by omega)), snd529]
      refine Ok.bind (hs.so hL hev) (fun y hy => ?_)
      subst hy
      cases hso : L.so r with
      | false =>
        rw [if_pos (show bI false = 0 from rfl)]
        exact ⟨_, rfl, hJ.keep (by rw [hcn, hso]; rfl), gOff.rf, rSame.rf⟩
      | true =>
        rw [if_neg (show ¬ bI true = 0 by decide)]
        exact hJ.said hL hr hev hs (by rw [hcn, hso, decide_eq_true (show L.cost r ≤ L.cost b + L.slack by omega)]; rfl)
def kW (L : Lt) (a : Int32) : Int32 := match L.B with
  | none => -4
  | some _ => if 0 ≤ a then a else -4
theorem kJ_0 {L : Lt} {wt : Int32} (G : gP) : kJ L wt 0 (xMk14 G (kMo L) wt) := by
  unfold xMk14
  refine ⟨?_, ?_, ?_, fun k hk => ?_, fun i q _ hq => (by cases hq), fun t q _ _ hq => (by cases hq)⟩
  · rw [gS_Sa, if_pos rfl, if_pos rfl]
  · rw [gS_Sa, if_pos rfl, if_neg (by decide), if_pos rfl]
  · rw [gS_Sa, if_pos rfl, if_neg (by decide), if_neg (by decide)]; rfl
  · rw [gL_Sa, gL_La, if_pos rfl]
    unfold opW
    apply bt_ext
    intro t ht
    rw [bt_0, bS_b _ 32 (by omega)]
    show false = (decide (t < 32) && decide (0 < L.hv [] k t))
    rw [decide_eq_false (show ¬ 0 < L.hv [] k t by unfold Lt.hv; simp), Bool.and_false]
theorem qP.mk14 (G : gP) (a b : Int32) : qP G (xMk14 G a b) := by
  unfold xMk14
  exact ⟨(gOff.rf.La (fun j => by simp [cqZ, liZ])).Sa (fun j => by simp [cqZ, liZ]), (rSame.rf.La).Sa⟩
theorem countedOnes_ok {L : Lt} {G : gP} (hL : L.Wf) (hN : xNow G L) (hK : xRk G) (a : Int32) : Ok (f_X0_countedOnes G a) (fun G' => kJ L (kW L a) L.N G' ∧ qP G G') := by
  unfold f_X0_countedOnes
  refine Ok.bind (first_ok hL hN hK) (fun G1 h1 => ?_)
  obtain ⟨hf1, hq1⟩ := h1
  have hN1 := hq1.now hL hN
  have hK1 := hK.same hq1.2
  refine Ok.bind (Q := fun G2 => kJ L (kW L a) 0 G2 ∧ qP G1 G2) ?_ (fun G2 h2 => ?_)
  · have hd := gDec_t hK1
    rw [isAny_I hL hf1, hd]
    have k0 := kJ_0 (L := L) (wt := kW L a) G1
    cases hB : L.B with
    | none =>
      have e1 : kMo L = -4 := by unfold kMo; rw [hB]
      have e2 : kW L a = -4 := by unfold kW; rw [hB]
      rw [if_pos (show bI (none : Option Nat).isSome = 0 from rfl), gck_t]
      rw [e1, e2] at k0
      rw [e2]
      exact ⟨_, rfl, k0, qP.mk14 _ _ _⟩
    | some b =>
      have e1 : kMo L = nI (L.cost b + L.slack) := by unfold kMo; rw [hB]
      have e2 : kW L a = if 0 ≤ a then a else -4 := by unfold kW; rw [hB]
      obtain ⟨b1, -⟩ := hf1.bn hB
      rw [if_neg (show ¬ bI (some b).isSome = 0 by show ¬ bI true = 0; decide), gck_t, gck_t, b1, hN1.1.2.2.1, nI_add]
      rw [e1, e2] at k0
      rw [e2]
      by_cases ha : 0 ≤ a
      · rw [if_pos ha] at k0 ⊢
        rw [if_pos ha]
        exact ⟨_, rfl, k0, qP.mk14 _ _ _⟩
      · rw [if_neg ha] at k0 ⊢
        rw [if_neg ha]
        exact ⟨_, rfl, k0, qP.mk14 _ _ _⟩
  · rw [obs]
    refine (listen_ok hL (counted_LS hL (kW L a)) (h2.2.now hL hN1) h2.1).imp ?_
    rintro G' ⟨x, y, z⟩
    exact ⟨x, (hq1.tr h2.2).tr ⟨y, z⟩⟩
theorem xopen_ok {G : gP} {L : Lt} (hL : L.Wf) (hN : xNow G L) (hK : xRk G) (a : Int32) : Ok (f_X0_open G a) (qA G (sOpen L a)) := by
  unfold f_X0_open sOpen
  have h8 := hL.n8
  rw [xisSlot_rg h8 hN.1.1]
  cases ha : rg a 0 L.n with
  | none => exact ⟨_, rfl, qP.rf, rfl⟩
  | some k =>
    obtain ⟨-, hk, rfl⟩ := rg_some ha
    simp only [Option.isSome_some, if_true]
    rw [if_neg (by decide)]
    refine Ok.bind (countedOnes_ok hL hN hK _) (fun G1 h1 => ?_)
    rw [gIn_t (by omega) (by omega), gck_t, nI_clamp (by omega)]
    exact ⟨_, rfl, h1.2, h1.1.opn k hk⟩
theorem xcounted_ok {G : gP} {L : Lt} (hL : L.Wf) (hN : xNow G L) (hK : xRk G) (a w : Int32) : Ok (f_X0_counted G a w) (qA G (sCounted L a w)) := by
  unfold f_X0_counted sCounted
  have hNl := hL.N_le
  have hCl : L.C.length ≤ L.N := L.cl_len L.N
  by_cases ha : a < 0
  · rw [if_pos ha, if_pos ha]; exact ⟨_, rfl, qP.rf, rfl⟩
  rw [if_neg ha, if_neg ha, isIn_rg w (lo := 0) (hi := 2) rfl rfl]
  cases hw : rg w 0 2 with
  | none => exact ⟨_, rfl, qP.rf, rfl⟩
  | some wn =>
    obtain ⟨-, hwn, rfl⟩ := rg_some hw
    simp only [Option.isSome_some, if_true]
    rw [if_neg (by decide)]
    obtain ⟨t, ht, rfl⟩ := nI_of ha
    refine Ok.bind (countedOnes_ok hL hN hK _) (fun G1 h1 => ?_)
    have hm : gS G1 529 2 = nI L.C.length := h1.1.many
    rw [hm, nI_toInt ht, Int.toNat_natCast]
    by_cases hlt : t < L.C.length
    · rw [if_pos (nI_lt hlt (by omega))]
      obtain ⟨q, hq⟩ : ∃ q, L.C[t]? = some q := ⟨_, List.getElem?_eq_getElem hlt⟩
      have hkw : kW L (nI t) = nI t := by
        unfold kW
        cases hB : L.B with
        | none => rw [L.C_none hL hB] at hlt; simp at hlt
        | some b => simp only; rw [if_pos (nI_pos' ht)]
      have hww := h1.1.want t q hkw ht hq
      rw [hq]
      simp only
      by_cases w0 : wn = 0
      · subst w0
        rw [if_pos (show nI 0 = 0 from rfl), if_pos rfl]
        exact ⟨_, rfl, h1.2, hww.1⟩
      · rw [if_neg (nI_ne0 (by omega) (by omega)), if_neg w0]
        exact ⟨_, rfl, h1.2, hww.2⟩
    · rw [if_neg (nI_nlt (by omega) ht), List.getElem?_eq_none (by omega)]
      exact ⟨_, rfl, h1.2, rfl⟩
end
section
/-! loops that compare; the listeners Weight and Next -/
def allB (c : Nat → Bool) : Nat → Bool
  | 0 => true
  | k + 1 => allB c k && c k
theorem allB_iff (c : Nat → Bool) : ∀ N, allB c N = true ↔ ∀ k, k < N → c k = true := by
  intro N
  induction N with
  | zero => exact ⟨fun _ k hk => by omega, fun _ => rfl⟩
  | succ N ih =>
    show (allB c N && c N) = true ↔ _
    rw [Bool.and_eq_true, ih]
    refine ⟨fun h k hk => ?_, fun h => ⟨fun k hk => h k (by omega), h N (by omega)⟩⟩
    by_cases e : k = N
    · subst e; exact h.2
    · exact h.1 k (by omega)
theorem cmpL {f : Int32 × Int32 → Option ((Int32 × Int32) ⊕ Int32)} {a N : Nat} {c : Nat → Bool} (hN : a + N < 2 ^ 30) (h1 : ∀ b k, k < N → f (bI b, nI (a + k)) = some (if b = true then Sum.inl (bI (c k), nI (a + k + 1)) else Sum.inr (bI b))) (h2 : ∀ b, f (bI b, nI (a + N)) = some (Sum.inr (bI b))) (s0 : Bool) : Ok (gloop f gFu (bI s0, nI a)) (fun x => x = bI (s0 && allB c N)) := by
  refine Ok.loop (fun n s => ∃ k b, n + k = N ∧ s = (bI b, nI (a + k)) ∧ b = (s0 && allB c k)) ?_ gFu N _ (by unfold gFu; omega) ⟨0, s0, rfl, rfl, by show s0 = (s0 && true); rw [Bool.and_true]⟩
  rintro n s ⟨k, b, hk, rfl, hb⟩
  cases n with
  | zero =>
    have e : k = N := by omega
    subst e
    exact ⟨_, h2 b, by simp only; rw [hb]⟩
  | succ n =>
    refine ⟨_, h1 b k (by omega), ?_⟩
    cases hbb : b with
    | false =>
      rw [if_neg (by decide)]
      simp only
      rw [hbb] at hb
      congr 1
      cases hs : s0 with
      | false => rfl
      | true =>
        rw [hs, Bool.true_and] at hb
        rw [Bool.true_and]
        cases hA : allB c N with
        | false => rfl
        | true =>
          exfalso
          have := (allB_iff c k).mpr (fun j hj => (allB_iff c N).mp hA j (by omega))
          rw [this] at hb; cases hb
    | true =>
      rw [if_pos rfl]
      simp only
      rw [hbb] at hb
      refine ⟨n, by omega, k + 1, c k, by omega, rfl, ?_⟩
      show c k = (s0 && (allB c k && c k))
      rw [← Bool.and_assoc, ← hb, Bool.true_and]
theorem alike_all (a b : List Nat) (n : Nat) : alike a b n = (decide (a.length = b.length) && allB (fun k => decide (nsF a k = nsF b k)) n) := by
  have h1 := alike_iff a b n
  have h2 := allB_iff (fun k => decide (nsF a k = nsF b k)) n
  cases hx : alike a b n with
  | true =>
    have := h1.mp hx
    rw [decide_eq_true this.1, h2.mpr (fun k hk => decide_eq_true (this.2 k hk))]; rfl
  | false =>
    cases hy : (decide (a.length = b.length) && allB (fun k => decide (nsF a k = nsF b k)) n) with
    | false => rfl
    | true =>
      rw [Bool.and_eq_true] at hy
      have := h1.mpr ⟨of_decide_eq_true hy.1, fun k hk => of_decide_eq_true (h2.mp hy.2 k hk)⟩
      rw [this] at hx; cases hx
theorem isSame_ok {G : gP} {a b : List Nat} (ha : nsOk a) (hb : nsOk b) (h5 : gS G 0 5 = nI a.length) (h6 : gS G 526 6 = nI b.length) (h2 : aL G 2 0 a) (h8 : aL G 528 0 b) : Ok (f_X13_isSame G) (fun x => x = bI (decide (a = b))) := by
  have la := ha.2.1
  have lb := hb.2.1
  unfold f_X13_isSame
  simp only [gLet_e]
  rw [h5, h6]
  have e0 : (if nI a.length = nI b.length then (1 : Int32) else 0) = bI (decide (a.length = b.length)) := ite_I (by omega) (by omega)
  rw [e0]
  refine Ok.bind (Q := fun x => x = bI (decide (a = b))) ?_ (fun x hx => by subst hx; rw [bI_Z, gck_t]; exact ⟨_, rfl, rfl⟩)
  by_cases hl : a.length = b.length
  · rw [decide_eq_true hl, ← alike_eq (a := a) (b := b) (Or.inr trivial), alike_all, decide_eq_true hl, ← hl]
    refine cmpL (a := 0) (N := a.length) (c := fun k => decide (nsF a k = nsF b k)) (by omega) (fun bb k hk => ?_) (fun bb => ?_) true
    · rw [Nat.zero_add]
      unfold f_X13_isSame_b22
      simp only
      rw [h5, if_neg (nI_ge hk (by omega))]
      cases bb
      · rw [if_pos (show bI false = 0 from rfl), if_neg (by decide)]
      · have g2 := nsF_aL h2 hk
        have g8 := nsF_aL h8 (j := k) (by omega)
        rw [Nat.zero_add] at g2 g8
        have f4 := nsF_le ha k
        have f5 := nsF_le hb k
        rw [if_neg (show ¬ bI true = 0 by decide), gIn_t (by omega) (by omega), gck_t, gck_t, nI_clamp (by omega), g2, g8, if_pos rfl, nI_1]
        by_cases e : nsF a k = nsF b k
        · rw [if_pos (nI_inj e), decide_eq_true e]; rfl
        · rw [if_neg (fun z => e ((nI_eq (by omega) (by omega)).mp z)), decide_eq_false e]; rfl
    · rw [Nat.zero_add]
      unfold f_X13_isSame_b22
      simp only
      rw [h5, if_pos (nI_le (Nat.le_refl _) (by omega))]
  · have : decide (a = b) = false := decide_eq_false (fun e => hl (by rw [e]))
    rw [this, decide_eq_false hl]
    have h0 := ha.1
    refine Ok.out (r := bI false) ?_ rfl
    unfold f_X13_isSame_b22
    simp only
    rw [h5, if_neg (show ¬ nI a.length ≤ 0 from nI_nle (by omega) (by omega)), if_pos (show bI false = 0 from rfl)]
/-- the next cost -/
def nJ (L : Lt) (r : Nat) (G : gP) : Prop := (fJ L L.N G) ∧ (gS G 532 2 = nI (if L.nx r = 9999 then 1000000 else L.nx r))
theorem nJ.f {L : Lt} {r : Nat} {G : gP} (h : nJ L r G) : (fJ L L.N G) := h.1
theorem nJ.nx {L : Lt} {r : Nat} {G : gP} (h : nJ L r G) : (gS G 532 2 = nI (if L.nx r = 9999 then 1000000 else L.nx r)) := h.2
theorem Lt.nx_f {L : Lt} {r : Nat} (h : ¬ (L.so r = true ∧ L.cost r < L.nx r ∧ L.ev r ≠ L.evO L.B)) : L.nx (r + 1) = L.nx r := by
  show (if _ then _ else _) = _
  rw [if_neg h]
theorem Lt.nx_t {L : Lt} {r : Nat} (h : L.so r = true ∧ L.cost r < L.nx r ∧ L.ev r ≠ L.evO L.B) : L.nx (r + 1) = L.cost r := by
  show (if _ then _ else _) = _
  rw [if_pos h]
theorem nJ.keep {L : Lt} {r : Nat} {G : gP} (h : nJ L r G) (hc : ¬ (L.so r = true ∧ L.cost r < L.nx r ∧ L.ev r ≠ L.evO L.B)) : nJ L (r + 1) G := ⟨h.f, by rw [L.nx_f hc]; exact h.nx⟩
theorem next_LS {L : Lt} (hL : L.Wf) : LsP L 532 (nJ L) := by
  refine ⟨fun r ns G hr hev hJ hs => ?_, fun r G _ he hJ => hJ.keep (fun z => by rw [L.so_none he] at z; cases z.1), fun r G G' hJ hO _ => ⟨hJ.f.off hO (fun k j hk => by simp [wZ]; omega), by rw [(hO 532 2 (by simp [wZ])).1]; exact hJ.nx⟩⟩
  unfold fSd
  rw [if_neg (by decide), if_neg (by decide), if_neg (by decide), if_pos rfl]
  unfold f_X16_said
  rw [hJ.nx, snd532]
  have hcr := hL.cost_le r
  have hnx := L.nx_le hL r
  by_cases hlt : L.cost r < L.nx r
  · rw [if_neg (show ¬ nI (if L.nx r = 9999 then 1000000 else L.nx r) ≤ nI (L.cost r) from nI_ge (by split <;> omega) (by split <;> omega))]
    refine Ok.bind (hs.so hL hev) (fun y hy => ?_)
    subst hy
    cases hso : L.so r with
    | false =>
      rw [if_pos (show bI false = 0 from rfl)]
      exact ⟨_, rfl, hJ.keep (fun z => by rw [hso] at z; cases z.1), gOff.rf, rSame.rf⟩
    | true =>
      rw [if_neg (show ¬ bI true = 0 by decide)]
      cases hB : L.B with
      | none => rw [hL.none_so L.N hB r hr] at hso; cases hso
      | some b =>
        obtain ⟨b1, b2, b3, b4, b5, b6⟩ := hJ.f.bn hB
        refine Ok.bind (isSame_ok hs.ok b5 hs.many b3 hs.ns b4) (fun y hy => ?_)
        subst hy
        have hevB : L.evO L.B = some L.bn := by unfold Lt.evO; rw [hB]; exact b6
        by_cases he : ns = L.bn
        · rw [decide_eq_true he, if_neg (show ¬ bI true = 0 by decide)]
          exact ⟨_, rfl, hJ.keep (fun z => z.2.2 (by rw [hev, hevB, he])), gOff.rf, rSame.rf⟩
        · rw [decide_eq_false he, if_pos (show bI false = 0 from rfl)]
          refine ⟨_, rfl, ⟨hJ.f.off (Z := fun k _ => decide (k = 532)) (gOff.rf.S1 (by simp)) (fun k j hk => by simp; omega), ?_⟩, gOff.rf.S1 (by simp [liZ]), rSame.rf.S1⟩
          rw [gS_at, L.nx_t ⟨hso, hlt, by rw [hev, hevB]; intro z; cases z; exact he rfl⟩, if_neg (by omega)]
  · rw [if_pos (show nI (if L.nx r = 9999 then 1000000 else L.nx r) ≤ nI (L.cost r) from by rw [if_neg (by omega)]; exact nI_le (by omega) (by omega))]
    exact ⟨_, rfl, hJ.keep (fun z => hlt z.2.1), gOff.rf, rSame.rf⟩
theorem xnext_ok {G : gP} {L : Lt} (hL : L.Wf) (hN : xNow G L) (hK : xRk G) : Ok (f_X0_nextCost G) (qA G (if L.nx L.N = 9999 then -4 else nI (L.nx L.N))) := by
  unfold f_X0_nextCost
  refine Ok.bind (first_ok hL hN hK) (fun G1 h1 => ?_)
  obtain ⟨hf1, hq1⟩ := h1
  rw [gDec_t (hK.same hq1.2), gck_t]
  simp only [gLet_e]
  have hq2 : qP G1 (xMk16 G1) := by unfold xMk16; exact ⟨gOff.rf.Sa (fun j => by simp [cqZ, liZ]), rSame.rf.Sa⟩
  have hJ0 : nJ L 0 (xMk16 G1) := by
    refine ⟨?_, ?_⟩
    · unfold xMk16
      exact hf1.off (Z := fun k _ => decide (k = 532)) (gOff.rf.Sa (fun j => by simp)) (fun k j hk => by simp; omega)
    · unfold xMk16
      rw [gS_Sa, if_pos rfl, if_pos rfl]
      rfl
  refine Ok.bind (listen_ok hL (next_LS hL) (hq2.now hL (hq1.now hL hN)) hJ0) (fun G2 h2 => ?_)
  obtain ⟨hJ, hO, hr⟩ := h2
  have hq : qP G G2 := (hq1.tr hq2).tr ⟨hO, hr⟩
  rw [hJ.nx]
  have hnx := L.nx_le hL L.N
  by_cases h9 : L.nx L.N = 9999
  · rw [if_pos h9, if_pos h9, if_pos (show (1000000 : Int32) ≤ nI 1000000 by decide)]
    exact ⟨_, rfl, hq, rfl⟩
  · rw [if_neg h9, if_neg h9, if_neg (show ¬ (1000000 : Int32) ≤ nI (L.nx L.N) from nI_ge (b := 1000000) (by omega) (by decide))]
    exact ⟨_, rfl, hq, rfl⟩
/-- weights -/
def wJ (L : Lt) (v : Nat) (r : Nat) (G : gP) : Prop := (gS G 534 1 = nI v) ∧ (gL G 534 3 = iL (L.wB r)) ∧ (gL G 534 2 = iL (L.wA v r))
theorem wJ.v {L : Lt} {v : Nat} {r : Nat} {G : gP} (h : wJ L v r G) : (gS G 534 1 = nI v) := h.1
theorem wJ.al {L : Lt} {v : Nat} {r : Nat} {G : gP} (h : wJ L v r G) : (gL G 534 3 = iL (L.wB r)) := h.2.1
theorem wJ.so {L : Lt} {v : Nat} {r : Nat} {G : gP} (h : wJ L v r G) : (gL G 534 2 = iL (L.wA v r)) := h.2.2
theorem weight_ok {L : Lt} (hL : L.Wf) {r : Nat} {ns : List Nat} {G : gP} (hs : sdP L r ns G) : Ok (gloop (f_X18_said_b12 G) gFu ((1 : Int64), (0 : Int32))) (fun x => x = iL (L.wt (L.pk r) L.n)) := by
  have h8 := hL.n8
  refine Ok.up (fun i s => s = (iL (L.wt (L.pk r) i), nI i)) L.n (by omega) ?_ ?_ rfl
  · rintro i s hi rfl
    unfold f_X18_said_b12
    have hp := hL.pk_lt (r := r) hi
    have hm := hL.m1 i hi
    have hc := hL.c10 i _ hi hp
    simp only
    rw [hs.now.1.1, if_neg (nI_ge hi (by omega)), gIn_t (by omega) (by omega), gck_t, nI_clamp (by omega), hs.now.2.ref0 (by omega)]
    simp only [obind_some]
    rw [gck_t, hs.pk i hi, gIn_t (by omega) (by omega), gck_t, nI_clamp (by omega), ((hs.now.1.2.2.2.2 i hi).2 _ hp).2, c10_L hc, iL_mul]
    exact ⟨_, rfl, by simp only; rw [nI_1]; rfl⟩
  · rintro s rfl
    unfold f_X18_said_b12
    simp only
    rw [hs.now.1.1, if_pos (nI_le (Nat.le_refl _) (by omega))]
    exact ⟨_, rfl, rfl⟩
theorem weight_LS {L : Lt} (hL : L.Wf) {v : Nat} (hv : v < 1000000) : LsP L 534 (wJ L v) := by
  have keep : ∀ r G, L.so r = false → wJ L v r G → wJ L v (r + 1) G := by
    intro r G hso h
    refine ⟨h.v, ?_, ?_⟩
    · show _ = iL (if L.so r = true then _ else _)
      rw [if_neg (by rw [hso]; decide)]; exact h.al
    · show _ = iL (if L.so r = true ∧ _ then _ else _)
      rw [if_neg (fun z => by rw [hso] at z; cases z.1)]; exact h.so
  refine ⟨fun r ns G hr hev hJ hs => ?_, fun r G _ he hJ => keep r G (L.so_none he) hJ, fun r G G' hJ hO _ => ⟨by rw [(hO 534 1 (by simp [wZ])).1]; exact hJ.v, by rw [(hO 534 3 (by simp [wZ])).2.1]; exact hJ.al, by rw [(hO 534 2 (by simp [wZ])).2.1]; exact hJ.so⟩⟩
  unfold fSd
  rw [if_neg (by decide), if_neg (by decide), if_neg (by decide), if_neg (by decide), if_neg (by decide), if_pos rfl]
  unfold f_X18_said
  rw [snd534]
  refine Ok.bind (hs.so hL hev) (fun y hy => ?_)
  subst hy
  cases hso : L.so r with
  | false =>
    rw [if_pos (show bI false = 0 from rfl)]
    exact ⟨_, rfl, keep r G hso hJ, gOff.rf, rSame.rf⟩
  | true =>
    rw [if_neg (show ¬ bI true = 0 by decide)]
    refine Ok.bind (weight_ok hL hs) (fun x hx => ?_)
    subst hx
    have hok := hs.ok
    have h0 := hok.1
    have h8 := hok.2.1
    have hl := L.lst_ns hev
    have hlb := nsF_le hok (ns.length - 1)
    have e5 : ∀ X : gP, gS X 0 5 = nI ns.length → gS X 0 5 - 1 = nI (ns.length - 1) := fun X h => by rw [h, nI_lit 1, pk_sub h0]
    have g2 := nsF_aL hs.ns (show ns.length - 1 < ns.length by omega)
    rw [Nat.zero_add, ← hl] at g2
    have hwB : L.wB (r + 1) = L.wB r + L.wt (L.pk r) L.n := by show (if L.so r = true then _ else _) = _; rw [if_pos hso]
    simp only [gLet_e]
    rw [e5 _ (by rw [gS_L1]; exact hs.many), gIn_t (by omega) (by omega), gck_t, nI_clamp (by omega), gS_L1, gS_L1, g2, hJ.v, gL_L1, if_neg (show ¬ (534 = 534 ∧ 2 = 3) by decide), hJ.al, hJ.so, iL_add, iL_add, ← hwB]
    have hO : ∀ w : Int64, gOff liZ G (gL1 (gL1 G 534 3 (iL (L.wB (r + 1)))) 534 2 w) := fun w => (gOff.rf.L1 (by simp [liZ])).L1 (by simp [liZ])
    have hR : ∀ w : Int64, rSame G (gL1 (gL1 G 534 3 (iL (L.wB (r + 1)))) 534 2 w) := fun w => (rSame.rf.L1).L1
    have h3 : ∀ w : Int64, gL (gL1 (gL1 G 534 3 (iL (L.wB (r + 1)))) 534 2 w) 534 3 = iL (L.wB (r + 1)) := fun w => by rw [gL_L1, if_neg (by decide), gL_L1, if_pos ⟨rfl, rfl⟩]
    have h2 : ∀ w : Int64, gL (gL1 (gL1 G 534 3 (iL (L.wB (r + 1)))) 534 2 w) 534 2 = w := fun w => by rw [gL_L1, if_pos ⟨rfl, rfl⟩]
    by_cases he : L.lst r = v
    · rw [if_pos (nI_inj he)]
      refine ⟨_, rfl, ⟨hJ.v, h3 _, ?_⟩, hO _, hR _⟩
      rw [h2]
      show _ = iL (if L.so r = true ∧ L.lst r = v then _ else _)
      rw [if_pos ⟨hso, he⟩]
    · rw [if_neg (fun z => he ((nI_eq (by omega) (by omega)).mp z))]
      refine ⟨_, rfl, ⟨hJ.v, h3 _, ?_⟩, hO _, hR _⟩
      rw [h2]
      show _ = iL (if L.so r = true ∧ L.lst r = v then _ else _)
      rw [if_neg (fun z => he z.2)]
      rw [show iL (L.wA v r) + 0 = iL (L.wA v r) from by rw [show (0 : Int64) = iL 0 from rfl, iL_add, Nat.add_zero]]
theorem xlikely_ok {G : gP} {L : Lt} (hL : L.Wf) (hN : xNow G L) (hK : xRk G) (a w : Int32) : Ok (f_X0_likely G a w) (qA G (sLikely L a w)) := by
  unfold f_X0_likely sLikely
  rw [isIn_rg a (lo := 0) (hi := 1000000) rfl rfl, isIn_rg w (lo := 0) (hi := 2) rfl rfl]
  cases ha : rg a 0 1000000 with
  | none => exact ⟨_, rfl, qP.rf, rfl⟩
  | some v =>
    obtain ⟨-, hv, rfl⟩ := rg_some ha
    simp only [Option.isSome_some, if_true]
    rw [if_neg (by decide)]
    cases hw : rg w 0 2 with
    | none => exact ⟨_, rfl, qP.rf, rfl⟩
    | some wn =>
      obtain ⟨-, hwn, rfl⟩ := rg_some hw
      simp only [Option.isSome_some, if_true]
      rw [if_neg (by decide), gDec_t hK, gck_t]
      simp only [gLet_e]
      have hq2 : qP G (xMk18 G (nI v)) := by unfold xMk18; exact ⟨(gOff.rf.La (fun j => by simp [cqZ, liZ])).Sa (fun j => by simp [cqZ, liZ]), (rSame.rf.La).Sa⟩
      have hJ0 : wJ L v 0 (xMk18 G (nI v)) := by
        unfold xMk18
        refine ⟨?_, ?_, ?_⟩
        · rw [gS_Sa, if_pos rfl, if_pos rfl]
        · rw [gL_Sa, gL_La, if_pos rfl]; rfl
        · rw [gL_Sa, gL_La, if_pos rfl]; rfl
      refine Ok.bind (listen_ok hL (weight_LS hL hv) (hq2.now hL hN) hJ0) (fun G2 h2 => ?_)
      obtain ⟨hJ, hO, hr⟩ := h2
      have hq : qP G G2 := hq2.tr ⟨hO, hr⟩
      have hNl := hL.N_le
      have hB := hL.wB_le L.N
      have hA := L.wA_le v L.N
      rw [hJ.al, hJ.so]
      by_cases h0 : L.wB L.N = 0
      · rw [if_pos h0, if_pos ((iL_0 (by omega)).mpr h0)]
        exact ⟨_, rfl, hq, rfl⟩
      · rw [if_neg h0, if_neg (fun z => h0 ((iL_0 (by omega)).mp z))]
        refine Ok.bind (gcd_ok (a := L.wA v L.N) (b := L.wB L.N) (by omega) (by omega) (f := f_X0_likely_b68) rfl) (fun x hx => ?_)
        subst hx
        have hg : 0 < Nat.gcd (L.wA v L.N) (L.wB L.N) := Nat.gcd_pos_of_pos_right _ (by omega)
        have hgl : Nat.gcd (L.wA v L.N) (L.wB L.N) ≤ L.wB L.N := Nat.gcd_le_right _ (by omega)
        have hnz : gNzL (iL (Nat.gcd (L.wA v L.N) (L.wB L.N))) = true := decide_eq_true (fun z => by have := (iL_0 (by omega)).mp z; omega)
        rw [hnz, gck_t, gck_t, iL_div (by omega) (by omega), iL_div (by omega) (by omega)]
        by_cases w0 : wn = 0
        · subst w0
          rw [if_pos (show nI 0 = 0 from rfl), if_pos rfl]
          exact ⟨_, rfl, hq, rfl⟩
        · rw [if_neg (nI_ne0 (by omega) (by omega)), if_neg w0]
          exact ⟨_, rfl, hq, rfl⟩
end
section
/-! those unlike the best in one slot; how many have which candidate -/
def ctR (f : Nat → Bool) (a : Nat) : Nat → Nat
  | 0 => 0
  | d + 1 => ctR f a d + if f (a + d) = true then 1 else 0
theorem ctR_add (f : Nat → Bool) (a d1 : Nat) : ∀ d2, ctR f a (d1 + d2) = ctR f a d1 + ctR f (a + d1) d2 := by
  intro d2
  induction d2 with
  | zero => rfl
  | succ d2 ih =>
    show ctR f a (d1 + d2) + (if f (a + (d1 + d2)) = true then 1 else 0) = ctR f a d1 + (ctR f (a + d1) d2 + if f (a + d1 + d2) = true then 1 else 0)
    rw [ih, show a + (d1 + d2) = a + d1 + d2 by omega, Nat.add_assoc]
theorem ctR_ext {f g : Nat → Bool} {a : Nat} : ∀ d, (∀ r, a ≤ r → r < a + d → f r = g r) → ctR f a d = ctR g a d := by
  intro d
  induction d with
  | zero => intro _; rfl
  | succ d ih =>
    intro h
    show ctR f a d + _ = ctR g a d + _
    rw [ih (fun r h1 h2 => h r h1 (by omega)), h (a + d) (by omega) (by omega)]
theorem ctR_z (a : Nat) : ∀ d, ctR (fun _ => false) a d = 0 := by
  intro d
  induction d with
  | zero => rfl
  | succ d ih => show ctR _ a d + 0 = 0; rw [ih]
theorem ctR_blk (f : Nat → Bool) (q m P : Nat) : ∀ c, ctR f (q * (m * P)) (c * P) = su (fun c => ctR f ((q * m + c) * P) P) c := by
  intro c
  induction c with
  | zero => rw [Nat.zero_mul]; rfl
  | succ c ih =>
    show _ = su _ c + ctR f ((q * m + c) * P) P
    rw [Nat.succ_mul, ctR_add, ih, show q * (m * P) + c * P = (q * m + c) * P by rw [← Nat.mul_assoc, Nat.add_mul]]
theorem su_one {g : Nat → Nat} {v j : Nat} : ∀ m, (∀ c, c < m → g c = if c = j then v else 0) → su g m = if j < m then v else 0 := by
  intro m
  induction m with
  | zero => intro _; rfl
  | succ m ih =>
    intro h
    show su g m + g m = _
    rw [ih (fun c hc => h c (by omega)), h m (by omega)]
    by_cases e : m = j
    · rw [if_neg (by omega), if_pos e, if_pos (by omega), Nat.zero_add]
    · rw [if_neg e]
      by_cases e2 : j < m
      · rw [if_pos e2, if_pos (by omega)]; rfl
      · rw [if_neg e2, if_neg (by omega)]
theorem Lt.wl_ext (L : Lt) {p p' : Nat → Nat} : ∀ n, (∀ i, i < n → p i = p' i) → L.wl p n = L.wl p' n := by
  intro n
  induction n with
  | zero => intro _; rfl
  | succ n ih =>
    intro h
    rw [L.wl_s, L.wl_s, ih (fun i hi => h i (by omega)), h n (by omega)]
theorem Lt.bad_ext {L : Lt} {p p' : Nat → Nat} (h : ∀ i, i < L.n → p i = p' i) : L.bad p = L.bad p' := by
  unfold Lt.bad Lt.tell
  rw [L.wl_ext L.n h]
/-- how many slots from k on are unlike -/
def Lt.hm (L : Lt) (p : Nat → Nat) (r : Nat) : Nat → Nat → Nat
  | _, 0 => 0
  | k, d + 1 => (if L.pk r k = p k then 0 else 1) + L.hm p r (k + 1) d
def Lt.ofN (L : Lt) (p : Nat → Nat) (r : Nat) : Nat → Nat
  | 0 => 0
  | i + 1 => L.ofN p r i + if L.pk r i = p i then 0 else 1
theorem Lt.of_hm (L : Lt) (p : Nat → Nat) (r : Nat) : ∀ d k, L.ofN p r (k + d) = L.ofN p r k + L.hm p r k d := by
  intro d
  induction d with
  | zero => intro k; rfl
  | succ d ih =>
    intro k
    rw [show k + (d + 1) = (k + 1) + d by omega, ih (k + 1)]
    show L.ofN p r k + _ + L.hm p r (k + 1) d = L.ofN p r k + (_ + L.hm p r (k + 1) d)
    rw [Nat.add_assoc]
theorem Lt.of_le (L : Lt) (p : Nat → Nat) (r : Nat) : ∀ i, L.ofN p r i ≤ i := by
  intro i
  induction i with
  | zero => exact Nat.le_refl _
  | succ i ih => show L.ofN p r i + _ ≤ _; split <;> omega
theorem Lt.blk_pk {L : Lt} (hL : L.Wf) {k q c r : Nat} (hk : k < L.n) (hc : c < L.m k) (h1 : (q * L.m k + c) * L.P (k + 1) ≤ r) (h2 : r < (q * L.m k + c) * L.P (k + 1) + L.P (k + 1)) : L.pk r k = c ∧ ∀ i, i < k → L.pk r i = L.pk (q * L.P k) i := by
  have hP := hL.Ppos (k + 1)
  have hd : r / L.P (k + 1) = q * L.m k + c := Nat.div_eq_of_lt_le h1 (by rw [Nat.succ_mul]; exact h2)
  refine ⟨?_, fun i hi => ?_⟩
  · unfold Lt.pk
    rw [hd, Nat.mul_comm, Nat.mul_add_mod, Nat.mod_eq_of_lt hc]
  · refine L.pk_pre (Nat.le_of_lt hk) ?_ hi
    rw [Nat.mul_div_cancel _ (hL.Ppos k), L.P_s hk, Nat.mul_comm, ← Nat.div_div_eq_div_mul, hd, Nat.mul_comm, Nat.mul_add_div (by omega), Nat.div_eq_of_lt hc, Nat.add_zero]
theorem Lt.spA {L : Lt} (hL : L.Wf) {p0 : Nat → Nat} (h0 : L.pOk p0) : ∀ d k, k + d = L.n → ∀ q p, (∀ i, i < k → p i = L.pk (q * L.P k) i) → (∀ i, k ≤ i → i < L.n → p i = p0 i) → ctR (fun r => decide (L.hm p0 r k d = 0) && L.bad (L.pk r)) (q * L.P k) (L.P k) = if L.bad p = true then 1 else 0 := by
  intro d
  induction d with
  | zero =>
    intro k hk q p h1 h2
    have e : k = L.n := by omega
    subst e
    rw [L.P_n, Nat.mul_one]
    rw [L.P_n, Nat.mul_one] at h1
    show 0 + (if (decide (0 = 0) && L.bad (L.pk (q + 0))) = true then 1 else 0) = _
    rw [Nat.add_zero, Nat.zero_add, L.bad_ext (p := p) (p' := L.pk q) h1]
    simp
  | succ d ih =>
    intro k hk q p h1 h2
    have hkn : k < L.n := by omega
    have hp := h0 k hkn
    rw [L.P_s hkn, ctR_blk]
    rw [su_one (v := if L.bad p = true then 1 else 0) (j := p0 k) (L.m k), if_pos hp]
    intro c hc
    by_cases e : c = p0 k
    · rw [if_pos e]
      have hb := fun r h1 h2 => L.blk_pk hL (q := q) (r := r) hkn hc h1 h2
      rw [← ih (k + 1) (by omega) (q * L.m k + c) p ?_ (fun i hi => h2 i (by omega))]
      · refine ctR_ext _ (fun r g1 g2 => ?_)
        show (decide ((if L.pk r k = p0 k then 0 else 1) + L.hm p0 r (k + 1) d = 0) && _) = _
        rw [(hb r g1 g2).1, if_pos e, Nat.zero_add]
      · intro i hi
        have hP := hL.Ppos (k + 1)
        have hbb := hb ((q * L.m k + c) * L.P (k + 1)) (Nat.le_refl _) (by omega)
        by_cases e2 : i = k
        · subst e2; rw [hbb.1, h2 i (Nat.le_refl _) hkn, e]
        · rw [hbb.2 i (by omega)]; exact h1 i (by omega)
    · rw [if_neg e]
      refine (ctR_ext (g := fun _ => false) _ (fun r g1 g2 => ?_)).trans (ctR_z _ _)
      show (decide ((if L.pk r k = p0 k then 0 else 1) + L.hm p0 r (k + 1) d = 0) && _) = _
      rw [(L.blk_pk hL (q := q) (r := r) hkn hc g1 g2).1, if_neg e, decide_eq_false (by omega), Bool.false_and]
def Lt.tS (L : Lt) (p : Nat → Nat) : Nat → Nat → Nat
  | _, 0 => 0
  | k, d + 1 => L.sp1 p k (L.m k) + L.tS p (k + 1) d
theorem Lt.sp_tS (L : Lt) (p : Nat → Nat) : ∀ d k, L.sp p (k + d) = L.sp p k + L.tS p k d := by
  intro d
  induction d with
  | zero => intro k; rfl
  | succ d ih =>
    intro k
    rw [show k + (d + 1) = (k + 1) + d by omega, ih (k + 1)]
    show L.sp p k + L.sp1 p k (L.m k) + L.tS p (k + 1) d = L.sp p k + (L.sp1 p k (L.m k) + L.tS p (k + 1) d)
    rw [Nat.add_assoc]
theorem Lt.spB {L : Lt} (hL : L.Wf) {p0 : Nat → Nat} (h0 : L.pOk p0) : ∀ d k, k + d = L.n → ∀ q, (∀ i, i < k → L.pk (q * L.P k) i = p0 i) → ctR (fun r => decide (L.hm p0 r k d = 1) && L.bad (L.pk r)) (q * L.P k) (L.P k) = L.tS p0 k d := by
  intro d
  induction d with
  | zero =>
    intro k hk q _
    refine (ctR_ext (g := fun _ => false) _ (fun r _ _ => ?_)).trans (ctR_z _ _)
    show (decide (0 = 1) && _) = false
    rfl
  | succ d ih =>
    intro k hk q h1
    have hkn : k < L.n := by omega
    have hp := h0 k hkn
    have hP := hL.Ppos (k + 1)
    rw [L.P_s hkn, ctR_blk]
    have key : ∀ m, m ≤ L.m k → su (fun c => ctR (fun r => decide (L.hm p0 r k (d + 1) = 1) && L.bad (L.pk r)) ((q * L.m k + c) * L.P (k + 1)) (L.P (k + 1))) m = L.sp1 p0 k m + if p0 k < m then L.tS p0 (k + 1) d else 0 := by
      intro m
      induction m with
      | zero => intro _; rfl
      | succ c ihc =>
        intro hc
        have hc' : c < L.m k := by omega
        have hb := fun r h1 h2 => L.blk_pk hL (q := q) (c := c) (r := r) hkn hc' h1 h2
        have hbb := hb ((q * L.m k + c) * L.P (k + 1)) (Nat.le_refl _) (by omega)
        show su _ c + ctR _ ((q * L.m k + c) * L.P (k + 1)) (L.P (k + 1)) = L.sp1 p0 k c + _ + _
        rw [ihc (by omega)]
        by_cases e : c = p0 k
        · have : ctR (fun r => decide (L.hm p0 r k (d + 1) = 1) && L.bad (L.pk r)) ((q * L.m k + c) * L.P (k + 1)) (L.P (k + 1)) = L.tS p0 (k + 1) d := by
            rw [← ih (k + 1) (by omega) (q * L.m k + c) ?_]
            · refine ctR_ext _ (fun r g1 g2 => ?_)
              show (decide ((if L.pk r k = p0 k then 0 else 1) + L.hm p0 r (k + 1) d = 1) && _) = _
              rw [(hb r g1 g2).1, if_pos e, Nat.zero_add]
            · intro i hi
              by_cases e2 : i = k
              · subst e2; rw [hbb.1, e]
              · rw [hbb.2 i (by omega)]; exact h1 i (by omega)
          rw [this, if_neg (show ¬ p0 k < c by omega), if_pos (show p0 k < c + 1 by omega), if_neg (show ¬ (p0 k ≠ c ∧ _) from fun z => z.1 e.symm)]
        · have : ctR (fun r => decide (L.hm p0 r k (d + 1) = 1) && L.bad (L.pk r)) ((q * L.m k + c) * L.P (k + 1)) (L.P (k + 1)) = if L.bad (setp p0 k c) = true then 1 else 0 := by
            rw [← L.spA hL h0 d (k + 1) (by omega) (q * L.m k + c) (setp p0 k c) ?_ ?_]
            · refine ctR_ext _ (fun r g1 g2 => ?_)
              show (decide ((if L.pk r k = p0 k then 0 else 1) + L.hm p0 r (k + 1) d = 1) && _) = _
              rw [(hb r g1 g2).1, if_neg e]
              congr 1
              by_cases e3 : L.hm p0 r (k + 1) d = 0
              · rw [decide_eq_true e3, decide_eq_true (by omega)]
              · rw [decide_eq_false e3, decide_eq_false (by omega)]
            · intro i hi
              unfold setp
              by_cases e2 : i = k
              · rw [if_pos e2, e2, hbb.1]
              · rw [if_neg e2, hbb.2 i (by omega)]; exact (h1 i (by omega)).symm
            · intro i hi hin
              unfold setp
              rw [if_neg (by omega)]
          rw [this]
          have e5 : (if p0 k < c then L.tS p0 (k + 1) d else 0) = if p0 k < c + 1 then L.tS p0 (k + 1) d else 0 := by
            by_cases e6 : p0 k < c
            · rw [if_pos e6, if_pos (by omega)]
            · rw [if_neg e6, if_neg (by omega)]
          have e7 : (if p0 k ≠ c ∧ L.bad (setp p0 k c) = true then 1 else 0) = if L.bad (setp p0 k c) = true then 1 else 0 := by
            by_cases e8 : L.bad (setp p0 k c) = true
            · rw [if_pos e8, if_pos ⟨fun z => e z.symm, e8⟩]
            · rw [if_neg e8, if_neg (fun z => e8 z.2)]
          rw [e5, e7]
          omega
    rw [key (L.m k) (Nat.le_refl _), if_pos hp]
    rfl
/-- so many of the first readings are unlike in one slot, said, not sound -/
def Lt.spN (L : Lt) (p : Nat → Nat) : Nat → Nat := ctR (fun r => decide (L.ofN p r L.n = 1) && L.bad (L.pk r)) 0
theorem Lt.spN_s (L : Lt) (p : Nat → Nat) (r : Nat) : L.spN p (r + 1) = L.spN p r + if (decide (L.ofN p r L.n = 1) && L.bad (L.pk r)) = true then 1 else 0 := by
  show ctR _ 0 r + (if (decide (L.ofN p (0 + r) L.n = 1) && L.bad (L.pk (0 + r))) = true then 1 else 0) = _
  rw [Nat.zero_add]; rfl
theorem Lt.spN_sp {L : Lt} (hL : L.Wf) {p : Nat → Nat} (h0 : L.pOk p) : L.spN p L.N = L.sp p L.n := by
  by_cases hn : L.n = 0
  · have : L.N = 0 := by unfold Lt.N; rw [if_pos hn]
    rw [this, hn]; rfl
  · have hN : L.N = L.P 0 := by unfold Lt.N; rw [if_neg hn]
    have h1 := L.sp_tS p L.n 0
    have h2 := L.spB hL h0 L.n 0 (by omega) 0 (fun i hi => by omega)
    rw [Nat.zero_add] at h1
    rw [h1, hN]
    rw [Nat.zero_mul] at h2
    show ctR _ 0 (L.P 0) = 0 + _
    rw [Nat.zero_add, ← h2]
    refine ctR_ext _ (fun r _ _ => ?_)
    have h3 := L.of_hm p r L.n 0
    rw [Nat.zero_add] at h3
    have h00 : L.ofN p r 0 = 0 := rfl
    have h4 : L.ofN p r L.n = L.hm p r 0 L.n := by omega
    show (decide (L.ofN p r L.n = 1) && _) = _
    rw [h4]
def pJ (L : Lt) (b r : Nat) (G : gP) : Prop := (fJ L L.N G) ∧ (gS G 533 2 = nI (L.spN (L.pk b) r))
theorem pJ.f {L : Lt} {b r : Nat} {G : gP} (h : pJ L b r G) : (fJ L L.N G) := h.1
theorem pJ.many {L : Lt} {b r : Nat} {G : gP} (h : pJ L b r G) : (gS G 533 2 = nI (L.spN (L.pk b) r)) := h.2
theorem off_ok {L : Lt} (hL : L.Wf) {b r : Nat} {ns : List Nat} {G : gP} (hB : L.B = some b) (hf : fJ L L.N G) (hs : sdP L r ns G) : Ok (gloop (f_X17_said_b4 G) gFu ((0 : Int32), (0 : Int32))) (fun x => x = nI (L.ofN (L.pk b) r L.n)) := by
  have h8 := hL.n8
  obtain ⟨-, b2, -⟩ := hf.bn hB
  refine Ok.up (fun i s => s = (nI (L.ofN (L.pk b) r i), nI i)) L.n (by omega) ?_ ?_ rfl
  · rintro i s hi rfl
    unfold f_X17_said_b4
    have hp := hL.pk_lt (r := r) hi
    have hp2 := hL.pk_lt (r := b) hi
    have hm := hL.m1 i hi
    simp only
    rw [hs.now.1.1, if_neg (nI_ge hi (by omega)), gIn_t (by omega) (by omega), gck_t, gck_t, nI_clamp (by omega), hs.pk i hi, b2 i hi]
    simp only [gLet_e]
    have e : (if nI (L.pk r i) = nI (L.pk b i) then (0 : Int32) else 1) = nI (if L.pk r i = L.pk b i then 0 else 1) := by
      by_cases h : L.pk r i = L.pk b i
      · rw [if_pos (nI_inj h), if_pos h]; rfl
      · rw [if_neg (fun z => h ((nI_eq (by omega) (by omega)).mp z)), if_neg h]; rfl
    rw [e, nI_add, nI_1]
    exact ⟨_, rfl, rfl⟩
  · rintro s rfl
    unfold f_X17_said_b4
    simp only
    rw [hs.now.1.1, if_pos (nI_le (Nat.le_refl _) (by omega))]
    exact ⟨_, rfl, rfl⟩
theorem spoilt_LS {L : Lt} (hL : L.Wf) {b : Nat} (hB : L.B = some b) : LsP L 533 (pJ L b) := by
  refine ⟨fun r ns G hr hev hJ hs => ?_, fun r G _ he hJ => ⟨hJ.f, ?_⟩, fun r G G' hJ hO _ => ⟨hJ.f.off hO (fun k j hk => by simp [wZ]; omega), by rw [(hO 533 2 (by simp [wZ])).1]; exact hJ.many⟩⟩
  · unfold fSd
    rw [if_neg (by decide), if_neg (by decide), if_neg (by decide), if_neg (by decide), if_pos rfl]
    unfold f_X17_said
    have h8 := hL.n8
    have hof := L.of_le (L.pk b) r L.n
    refine Ok.bind (off_ok hL hB hJ.f hs) (fun x hx => ?_)
    subst hx
    have hbad : L.bad (L.pk r) = !L.so r := by
      unfold Lt.bad Lt.so
      show (match L.ev r with | none => false | some ns => !sound L.kind ns) = _
      rw [hev]
    have put : ∀ v : Nat, L.spN (L.pk b) (r + 1) = L.spN (L.pk b) r + v → Ok (some (gS1 G 533 2 (gS G 533 2 + nI v))) (fun G' => pJ L b (r + 1) G' ∧ gOff liZ G G' ∧ rSame G G') := by
      intro v hv
      refine ⟨_, rfl, ⟨hJ.f.off (Z := fun k _ => decide (k = 533)) (gOff.rf.S1 (by simp)) (fun k j hk => by simp; omega), ?_⟩, gOff.rf.S1 (by simp [liZ]), rSame.rf.S1⟩
      rw [gS_at, hJ.many, nI_add, hv]
    have hsp := L.spN_s (L.pk b) r
    rw [hbad] at hsp
    simp only [gLet_e]
    by_cases h1 : L.ofN (L.pk b) r L.n = 1
    · rw [if_pos (show nI (L.ofN (L.pk b) r L.n) = 1 by rw [h1]; rfl), snd533]
      rw [decide_eq_true h1, Bool.true_and] at hsp
      refine Ok.bind (hs.so hL hev) (fun y hy => ?_)
      subst hy
      cases hso : L.so r with
      | false =>
        rw [if_pos (show bI false = 0 from rfl)]
        rw [hso] at hsp
        exact put 1 hsp
      | true =>
        rw [if_neg (show ¬ bI true = 0 by decide)]
        rw [hso] at hsp
        exact put 0 hsp
    · rw [if_neg (show ¬ nI (L.ofN (L.pk b) r L.n) = 1 from fun z => h1 ((nI_eq (b := 1) (by omega) (by decide)).mp z))]
      rw [decide_eq_false h1, Bool.false_and] at hsp
      exact put 0 hsp
  · rw [L.spN_s]
    have : L.bad (L.pk r) = false := by
      unfold Lt.bad
      show (match L.ev r with | none => false | some ns => !sound L.kind ns) = _
      rw [he]
    rw [this, Bool.and_false, if_neg (by decide), Nat.add_zero]; exact hJ.many
theorem xspoilt_ok {G : gP} {L : Lt} (hL : L.Wf) (hN : xNow G L) (hK : xRk G) : Ok (f_X0_spoiltMany G) (qA G L.spo) := by
  unfold f_X0_spoiltMany Lt.spo
  refine Ok.bind (first_ok hL hN hK) (fun G1 h1 => ?_)
  obtain ⟨hf1, hq1⟩ := h1
  rw [isAny_I hL hf1, gDec_t (hK.same hq1.2), gck_t]
  cases hB : L.B with
  | none => rw [if_pos (show bI (none : Option Nat).isSome = 0 from rfl)]; exact ⟨_, rfl, hq1, rfl⟩
  | some b =>
    rw [if_neg (show ¬ bI (some b).isSome = 0 by show ¬ bI true = 0; decide)]
    simp only [gLet_e]
    have hq2 : qP G1 (xMk17 G1) := by unfold xMk17; exact ⟨gOff.rf.Sa (fun j => by simp [cqZ, liZ]), rSame.rf.Sa⟩
    have hJ0 : pJ L b 0 (xMk17 G1) := by
      refine ⟨?_, ?_⟩
      · unfold xMk17
        exact hf1.off (Z := fun k _ => decide (k = 533)) (gOff.rf.Sa (fun j => by simp)) (fun k j hk => by simp; omega)
      · unfold xMk17
        rw [gS_Sa, if_pos rfl]
        rfl
    refine Ok.bind (listen_ok hL (spoilt_LS hL hB) (hq2.now hL (hq1.now hL hN)) hJ0) (fun G2 h2 => ?_)
    obtain ⟨hJ, hO, hr⟩ := h2
    refine ⟨_, rfl, (hq1.tr hq2).tr ⟨hO, hr⟩, ?_⟩
    simp only
    rw [hJ.many, L.spN_sp hL (hL.pk_ok b)]
end
section
/-! the slot to look at, however many count -/
def Lt.tl (L : Lt) (l : List Nat) (k j : Nat) : Nat := l.countP (fun r => decide (L.pk r k = j))
theorem Lt.tl_s (L : Lt) (l : List Nat) (r k j : Nat) : L.tl (l ++ [r]) k j = L.tl l k j + if L.pk r k = j then 1 else 0 := by
  unfold Lt.tl
  rw [List.countP_append, List.countP_singleton]
  by_cases h : L.pk r k = j
  · rw [if_pos h, if_pos (decide_eq_true h)]
  · rw [if_neg h, if_neg (by rw [decide_eq_false h]; decide)]
theorem Lt.tl_le (L : Lt) (l : List Nat) (k j : Nat) : L.tl l k j ≤ l.length := List.countP_le_length
theorem Lt.hv_tl {L : Lt} (hL : L.Wf) {k j : Nat} (hk : k < L.n) (hj : j < L.m k) (l : List Nat) : L.hv l k (L.w k j) = L.tl l k j := by
  unfold Lt.hv Lt.tl
  congr 1
  funext r
  have hp := hL.pk_lt (r := r) hk
  by_cases e : L.pk r k = j
  · rw [e, decide_eq_true rfl, decide_eq_true rfl]
  · rw [decide_eq_false e, decide_eq_false]
    intro z
    rcases Nat.lt_or_gt_of_ne e with h | h
    · exact hL.ds k _ _ hk h hj z
    · exact hL.ds k _ _ hk h hp z.symm
theorem Lt.hv_ex {L : Lt} {l : List Nat} {k w : Nat} (h : L.hv l k w ≠ 0) : ∃ r, r ∈ l ∧ L.w k (L.pk r k) = w := by
  unfold Lt.hv at h
  have := List.countP_pos_iff.mp (Nat.pos_of_ne_zero h)
  obtain ⟨r, h1, h2⟩ := this
  exact ⟨r, h1, of_decide_eq_true h2⟩
theorem Lt.mxw {L : Lt} (hL : L.Wf) {k : Nat} (hk : k < L.n) (l : List Nat) : mx (fun j => L.hv l k (L.w k j)) (L.m k) = mx (L.hv l k) 32 := by
  apply Nat.le_antisymm
  · exact mx_le _ (fun j hj => mx_ge (L.hv l k) 32 _ (hL.w32 k j hk hj))
  · refine mx_le _ (fun w hw => ?_)
    by_cases h0 : L.hv l k w = 0
    · omega
    · obtain ⟨r, -, rfl⟩ := L.hv_ex h0
      exact mx_ge (fun j => L.hv l k (L.w k j)) _ _ (hL.pk_lt hk)
theorem Lt.mxt {L : Lt} (hL : L.Wf) {k : Nat} (hk : k < L.n) (l : List Nat) : mx (L.tl l k) 4 = mx (L.hv l k) 32 := by
  rw [← L.mxw hL hk]
  have hm := hL.m1 k hk
  apply Nat.le_antisymm
  · refine mx_le _ (fun j hj => ?_)
    by_cases h : j < L.m k
    · rw [← L.hv_tl hL hk h]
      exact mx_ge (fun j => L.hv l k (L.w k j)) _ _ h
    · have : L.tl l k j = 0 := by
        unfold Lt.tl
        rw [List.countP_eq_zero]
        intro r _ z
        have := of_decide_eq_true z
        have := hL.pk_lt (r := r) hk
        omega
      omega
  · refine mx_le _ (fun j hj => ?_)
    rw [L.hv_tl hL hk hj]
    exact mx_ge (L.tl l k) 4 j (by omega)
theorem lk_eq {f g : Nat → Nat} (all : Nat) : ∀ n, (∀ k, k < n → f k = g k) → lk f all n = lk g all n := by
  intro n
  induction n with
  | zero => intro _; rfl
  | succ n ih =>
    intro h
    show (if f n < (lk f all n).2 then (some n, f n) else lk f all n) = if g n < (lk g all n).2 then (some n, g n) else lk g all n
    rw [ih (fun k hk => h k (by omega)), h n (by omega)]
def tJ (L : Lt) (b r : Nat) (G : gP) : Prop := (gS G 531 1 = nI (L.cost b + L.slack)) ∧ (gS G 531 2 = nI (L.cl r).length) ∧ (∀ k j, k < L.n → j < 4 → gS G 10 (4 * k + j) = nI (L.tl (L.cl r) k j))
theorem tJ.most {L : Lt} {b r : Nat} {G : gP} (h : tJ L b r G) : (gS G 531 1 = nI (L.cost b + L.slack)) := h.1
theorem tJ.many {L : Lt} {b r : Nat} {G : gP} (h : tJ L b r G) : (gS G 531 2 = nI (L.cl r).length) := h.2.1
theorem tJ.tl {L : Lt} {b r : Nat} {G : gP} (h : tJ L b r G) : (∀ k j, k < L.n → j < 4 → gS G 10 (4 * k + j) = nI (L.tl (L.cl r) k j)) := h.2.2
theorem tJ.off {Z : Nat → Nat → Bool} {L : Lt} {b r : Nat} {G G' : gP} (h : tJ L b r G) (hO : gOff Z G G') (z : ∀ k j, k = 10 ∨ k = 531 → Z k j = false) : tJ L b r G' :=
  ⟨by rw [(hO 531 1 (z _ _ (by omega))).1]; exact h.most, by rw [(hO 531 2 (z _ _ (by omega))).1]; exact h.many, fun k j hk hj => by rw [(hO 10 _ (z _ _ (by omega))).1]; exact h.tl k j hk hj⟩
theorem tJ.keep {L : Lt} {b r : Nat} {G : gP} (h : tJ L b r G) (hc : L.cnt r = false) : tJ L b (r + 1) G := by
  have e := L.cl_f hc
  exact ⟨h.most, by rw [e]; exact h.many, by rw [e]; exact h.tl⟩
theorem tlb_ok {L : Lt} (hL : L.Wf) {r : Nat} {ns l : List Nat} {G : gP} (hl : l.length < 2 ^ 30) (hs : sdP L r ns G) (ht : ∀ k j, k < L.n → j < 4 → gS G 10 (4 * k + j) = nI (L.tl l k j)) : Ok (gloop (f_X15_said_b27) gFu (G, (0 : Int32))) (fun G' => gOff (fun k _ => decide (k = 10)) G G' ∧ rSame G G' ∧ ∀ k j, k < L.n → j < 4 → gS G' 10 (4 * k + j) = nI (L.tl (l ++ [r]) k j)) := by
  have h8 := hL.n8
  refine Ok.up (fun i s => s.2 = nI i ∧ gOff (fun k _ => decide (k = 10)) G s.1 ∧ rSame G s.1 ∧ (∀ k j, k < i → j < 4 → gS s.1 10 (4 * k + j) = nI (L.tl (l ++ [r]) k j)) ∧ ∀ k j, i ≤ k → k < L.n → j < 4 → gS s.1 10 (4 * k + j) = nI (L.tl l k j)) L.n (by omega) ?_ ?_ ⟨rfl, gOff.rf, rSame.rf, fun k j hk => by omega, fun k j _ hk hj => ht k j hk hj⟩
  · rintro i ⟨G1, x⟩ hi ⟨hx, hO, hr, ha, hb⟩
    simp only at hx hO hr ha hb
    subst hx
    have hs1 : sdP L r ns G1 := hs.lis hL hO hr (fun k j hk => by simp; omega)
    have hp := hL.pk_lt (r := r) hi
    have hm := hL.m1 i hi
    unfold f_X15_said_b27
    simp only
    have e4 : (4 : Int32) * nI i + nI (L.pk r i) = nI (4 * i + L.pk r i) := by rw [nI_lit 4, pk_mul, nI_add]
    rw [hs1.now.1.1, if_neg (nI_ge hi (by omega)), gIn_t (by omega) (by omega), gck_t, nI_clamp (by omega), hs1.pk i hi, e4, gIn_t (by omega) (by omega), gck_t, gck_t, nI_clamp (by omega), hb i _ (Nat.le_refl _) hi (by omega), nI_1]
    simp only [gLet_e]
    refine ⟨_, rfl, nI_1 i, hO.S1 (by simp), hr.S1, fun k j hk hj => ?_, fun k j hk hkn hj => ?_⟩
    · simp only
      rw [L.tl_s]
      by_cases e : k = i
      · subst e
        by_cases e2 : j = L.pk r k
        · subst e2; rw [gS_at, if_pos rfl]
        · rw [gS_ne (by omega), if_neg (fun z => e2 z.symm), Nat.add_zero]
          exact hb k j (Nat.le_refl _) hi hj
      · rw [gS_ne (by omega), ← L.tl_s]
        exact ha k j (by omega) hj
    · simp only
      rw [gS_ne (by omega)]
      exact hb k j (by omega) hkn hj
  · rintro ⟨G1, x⟩ ⟨hx, hO, hr, ha, hb⟩
    simp only at hx hO hr ha hb
    subst hx
    have hs1 : sdP L r ns G1 := hs.lis hL hO hr (fun k j hk => by simp; omega)
    unfold f_X15_said_b27
    simp only
    rw [hs1.now.1.1, if_pos (nI_le (Nat.le_refl _) (by omega))]
    exact ⟨_, rfl, hO, hr, fun k j hk hj => ha k j hk hj⟩
theorem tally_LS {L : Lt} (hL : L.Wf) {b : Nat} (hB : L.B = some b) : LsP L 531 (tJ L b) := by
  refine ⟨fun r ns G hr hev hJ hs => ?_, fun r G _ he hJ => hJ.keep (by unfold Lt.cnt; rw [L.so_none he]; rfl), fun r G G' hJ hO _ => hJ.off hO (fun k j hk => by simp [wZ]; omega)⟩
  unfold fSd
  rw [if_neg (by decide), if_neg (by decide), if_pos rfl]
  unfold f_X15_said
  rw [hJ.most, snd531]
  have hcr := hL.cost_le r
  have hcb := hL.cost_le b
  have hsl := hL.s20
  have hcn := L.cnt_B (r := r) hB
  have hlen := L.cl_len r
  have hN := hL.N_le
  by_cases hlt : L.cost b + L.slack < L.cost r
  · rw [if_pos (nI_lt hlt (by omega))]
    exact ⟨_, rfl, hJ.keep (by rw [hcn, decide_eq_false (by omega), Bool.and_false]), gOff.rf, rSame.rf⟩
  · rw [if_neg (nI_nlt (by omega) (by omega))]
    refine Ok.bind (hs.so hL hev) (fun y hy => ?_)
    subst hy
    cases hso : L.so r with
    | false =>
      rw [if_pos (show bI false = 0 from rfl)]
      exact ⟨_, rfl, hJ.keep (by rw [hcn, hso]; rfl), gOff.rf, rSame.rf⟩
    | true =>
      rw [if_neg (show ¬ bI true = 0 by decide)]
      simp only [gLet_e, obs]
      have hc : L.cnt r = true := by rw [hcn, hso, decide_eq_true (show L.cost r ≤ L.cost b + L.slack by omega)]; rfl
      rw [hJ.many, nI_1]
      have hO1 : gOff (fun k _ => decide (k = 531)) G (gS1 G 531 2 (nI ((L.cl r).length + 1))) := gOff.rf.S1 (by simp)
      have hr1 : rSame G (gS1 G 531 2 (nI ((L.cl r).length + 1))) := rSame.rf.S1
      have g1 : gS (gS1 G 531 2 (nI ((L.cl r).length + 1))) 531 1 = nI (L.cost b + L.slack) := by rw [gS_ne (by decide)]; exact hJ.most
      have g2 : gS (gS1 G 531 2 (nI ((L.cl r).length + 1))) 531 2 = nI ((L.cl r).length + 1) := gS_at
      generalize gS1 G 531 2 (nI ((L.cl r).length + 1)) = G1 at *
      have hs1 : sdP L r ns G1 := hs.lis hL hO1 hr1 (fun k j hk => by simp; omega)
      refine (tlb_ok hL (l := L.cl r) (by omega) hs1 (fun k j hk hj => by rw [(hO1 10 _ (by simp)).1]; exact hJ.tl k j hk hj)).imp ?_
      rintro G2 ⟨a, b', c⟩
      refine ⟨⟨?_, ?_, ?_⟩, (hO1.w (fun k j z => by simp [liZ] at z ⊢; omega)).tr (a.w (fun k j z => by simp [liZ] at z ⊢; omega)), hr1.tr b'⟩
      · rw [(a 531 1 (by simp)).1]; exact g1
      · rw [(a 531 2 (by simp)).1, g2, L.cl_t hc, List.length_append, List.length_singleton]
      · rw [L.cl_t hc]; exact c
theorem first10_LS {L : Lt} (hL : L.Wf) : LsP L 526 (fun r G => fJ L r G ∧ ∀ j, j < 32 → gS G 10 j = nI 0) := by
  refine ⟨fun r ns G hr hev hJ hsd => ?_, fun r G _ he hJ => ⟨hJ.1.skip he, hJ.2⟩, fun r G G' hJ hO _ => ⟨hJ.1.off hO (fun k j hk => by simp [wZ]; omega), fun j hj => by rw [(hO 10 j (by simp [wZ])).1]; exact hJ.2 j hj⟩⟩
  unfold fSd
  rw [if_pos rfl]
  refine (first_sd hL hev hJ.1 hsd).imp ?_
  rintro G' ⟨a, b, c⟩
  exact ⟨⟨a, fun j hj => by rw [(b 10 j (by simp [f3Z])).1]; exact hJ.2 j hj⟩, b.w (fun k j z => by simp [f3Z, liZ] at z ⊢; omega), c⟩
theorem first10 {L : Lt} {G : gP} (hL : L.Wf) (hN : xNow G L) (hK : xRk G) (hz : ∀ j, j < 32 → gS G 10 j = nI 0) : Ok (f_X0_first G) (fun G' => fJ L L.N G' ∧ qP G G' ∧ ∀ j, j < 32 → gS G' 10 j = nI 0) := by
  unfold f_X0_first
  rw [gDec_t hK, gck_t]
  simp only [gLet_e, obs]
  have hq := qP.mk13 G
  refine (listen_ok hL (first10_LS hL) (hq.now hL hN) ⟨fJ_0 G, fun j hj => ?_⟩).imp ?_
  · unfold xMk13
    rw [gS_Sa, if_neg (by decide), gS_Sa, if_neg (by decide), gS_Sa, if_neg (by decide)]; exact hz j hj
  · rintro G' ⟨a, b, c⟩
    exact ⟨a.1, hq.tr ⟨b, c⟩, a.2⟩
theorem zero_ok {G : gP} : Ok (gloop (f_X0_lookAtMany_b2) gFu (G, (0 : Int32))) (fun G' => gOff (fun k _ => decide (k = 10)) G G' ∧ rSame G G' ∧ ∀ j, j < 32 → gS G' 10 j = nI 0) := by
  refine Ok.up (fun i s => s.2 = nI i ∧ gOff (fun k _ => decide (k = 10)) G s.1 ∧ rSame G s.1 ∧ ∀ j, j < i → gS s.1 10 j = nI 0) 32 (by decide) ?_ ?_ ⟨rfl, gOff.rf, rSame.rf, fun j hj => by omega⟩
  · rintro i ⟨G1, x⟩ hi ⟨hx, hO, hr, ha⟩
    simp only at hx hO hr ha
    subst hx
    unfold f_X0_lookAtMany_b2
    simp only
    rw [if_neg (show ¬ (32 : Int32) ≤ nI i from nI_ge (b := 32) hi (by decide)), gIn_t (by omega) hi, gck_t, nI_clamp (by omega)]
    refine ⟨_, rfl, nI_1 i, hO.S1 (by simp), hr.S1, fun j hj => ?_⟩
    simp only
    by_cases e : j = i
    · subst e; rw [gS_at]; rfl
    · rw [gS_ne (by omega)]; exact ha j (by omega)
  · rintro ⟨G1, x⟩ ⟨hx, hO, hr, ha⟩
    simp only at hx hO hr ha
    subst hx
    unfold f_X0_lookAtMany_b2
    simp only
    rw [if_pos (show (32 : Int32) ≤ nI 32 by decide)]
    exact ⟨_, rfl, hO, hr, ha⟩
theorem gMax_I {a b : Nat} (ha : a < 2 ^ 31) (hb : b < 2 ^ 31) : gMax (nI a) (nI b) = nI (if a < b then b else a) := by
  unfold gMax
  by_cases h : a < b
  · rw [if_pos (nI_lt h hb), if_pos h]
  · rw [if_neg (nI_nlt (by omega) ha), if_neg h]
theorem gMin_I {a b : Nat} (ha : a < 2 ^ 31) (hb : b < 2 ^ 31) : gMin (nI a) (nI b) = nI (if b < a then b else a) := by
  unfold gMin
  by_cases h : b < a
  · rw [if_pos (nI_lt h ha), if_pos h]
  · rw [if_neg (nI_nlt (by omega) hb), if_neg h]
/-- a loop over the slots that looks for the one that parts best -/
theorem lkL {f : Int32 × Int32 × Int32 → Option ((Int32 × Int32 × Int32) ⊕ Int32)} {n all : Nat} {mo : Nat → Nat} (hn : n ≤ 8) (ha : all < 2 ^ 30) (hm : ∀ k, k < n → mo k < 2 ^ 30)
    (h1 : ∀ o l k, k < n → f (o, nI l, nI k) = some (Sum.inl ((if nI l ≤ nI (mo k) then o else nI k), gMin (nI l) (nI (mo k)), nI k + 1))) (h2 : ∀ o l, f (o, l, nI n) = some (Sum.inr o)) : Ok (gloop f gFu ((-4 : Int32), nI all, (0 : Int32))) (fun x => x = rI (lk mo all n).1) := by
  refine Ok.up (fun i s => s = (rI (lk mo all i).1, nI (lk mo all i).2, nI i)) n (by omega) ?_ ?_ rfl
  · rintro i s hi rfl
    have hl := lk_le mo all i
    have hmi := hm i hi
    refine ⟨_, h1 _ _ i hi, ?_⟩
    simp only
    rw [gMin_I (by omega) (by omega), nI_1]
    show _ = (rI (if mo i < (lk mo all i).2 then (some i, mo i) else lk mo all i).1, nI (if mo i < (lk mo all i).2 then (some i, mo i) else lk mo all i).2, nI (i + 1))
    by_cases h : mo i < (lk mo all i).2
    · rw [if_neg (nI_ge h (by omega)), if_pos h, if_pos h]; rfl
    · rw [if_pos (nI_le (by omega) (by omega)), if_neg h, if_neg h]
  · rintro s rfl
    exact ⟨_, h2 _ _, rfl⟩
theorem lookMany_ok {G : gP} {L : Lt} (hL : L.Wf) (hN : xNow G L) (hK : xRk G) {b : Nat} (hB : L.B = some b) : Ok (f_X0_lookAtMany G) (qA G (rI (lk (fun k => mx (L.hv L.C k) 32) L.C.length L.n).1)) := by
  unfold f_X0_lookAtMany
  have h8 := hL.n8
  have hNl := hL.N_le
  have hCl : L.C.length ≤ L.N := L.cl_len L.N
  refine Ok.bind zero_ok (fun G1 h1 => ?_)
  obtain ⟨hO1, hr1, hz1⟩ := h1
  have hq1 : qP G G1 := ⟨hO1.w (fun k j z => by simp [cqZ, liZ] at z ⊢; omega), hr1⟩
  have hN1 := hq1.now hL hN
  have hK1 := hK.same hr1
  refine Ok.bind (Q := fun G2 => fJ L L.N G2 ∧ qP G1 G2 ∧ ∀ j, j < 32 → gS G2 10 j = nI 0) ?_ (fun G2 h2 => ?_)
  · -- First doesn't touch the tally: it is a question with a listener of its own
    have hf := first10 hL hN1 hK1 hz1
    exact hf
  obtain ⟨hf2, hq2, hz2⟩ := h2
  have hN2 := hq2.now hL hN1
  rw [gDec_t (hK1.same hq2.2), gck_t]
  simp only [gLet_e]
  obtain ⟨b1, -⟩ := hf2.bn hB
  rw [b1, hN2.1.2.2.1, nI_add]
  have hq3 : qP G2 (xMk15 G2 (nI (L.cost b + L.slack))) := by unfold xMk15; exact ⟨gOff.rf.Sa (fun j => by simp [cqZ, liZ]), rSame.rf.Sa⟩
  have hJ0 : tJ L b 0 (xMk15 G2 (nI (L.cost b + L.slack))) := by
    unfold xMk15
    refine ⟨?_, ?_, fun k j hk hj => ?_⟩
    · rw [gS_Sa, if_pos rfl, if_pos rfl]
    · rw [gS_Sa, if_pos rfl, if_neg (by decide)]; rfl
    · rw [gS_Sa, if_neg (by decide), hz2 _ (by omega)]; rfl
  refine Ok.bind (listen_ok hL (tally_LS hL hB) (hq3.now hL hN2) hJ0) (fun G4 h4 => ?_)
  obtain ⟨hJ, hO, hr⟩ := h4
  have hq : qP G G4 := ((hq1.tr hq2).tr hq3).tr ⟨hO, hr⟩
  have hN4 := hq.now hL hN
  have hm : gS G4 531 2 = nI L.C.length := hJ.many
  have htl : ∀ k j, k < L.n → j < 4 → gS G4 10 (4 * k + j) = nI (L.tl L.C k j) := hJ.tl
  rw [hm]
  refine Ok.bind (Q := fun x => x = rI (lk (fun k => mx (L.hv L.C k) 32) L.C.length L.n).1) ?_ (fun x hx => ⟨_, rfl, hq, hx⟩)
  rw [← lk_eq (f := fun k => mx (L.tl L.C k) 4) L.C.length L.n (fun k hk => L.mxt hL hk L.C)]
  have hmx : ∀ k, mx (L.tl L.C k) 4 < 2 ^ 30 := fun k => Nat.lt_of_le_of_lt (mx_le 4 (fun j _ => L.tl_le L.C k j)) (by omega)
  refine lkL h8 (by omega) (fun k _ => hmx k) (fun o l k hk => ?_) (fun o l => ?_)
  · unfold f_X0_lookAtMany_b63
    simp only
    rw [hN4.1.1, if_neg (nI_ge hk (by omega))]
    have hin : Ok (gloop (f_X0_lookAtMany_b81 (o, nI l, nI k) G4) gFu ((0 : Int32), (0 : Int32))) (fun x => x = nI (mx (L.tl L.C k) 4)) := by
      refine Ok.up (fun i s => s = (nI (mx (L.tl L.C k) i), nI i)) 4 (by decide) ?_ ?_ rfl
      · rintro i s hi rfl
        unfold f_X0_lookAtMany_b81
        simp only
        have e4 : (4 : Int32) * nI k + nI i = nI (4 * k + i) := by rw [nI_lit 4, pk_mul, nI_add]
        have ht1 := L.tl_le L.C k i
        have hmi : mx (L.tl L.C k) i ≤ L.C.length := mx_le i (fun j _ => L.tl_le L.C k j)
        rw [if_neg (show ¬ (4 : Int32) ≤ nI i from nI_ge (b := 4) hi (by decide)), e4, gIn_t (by omega) (by omega), gck_t, nI_clamp (by omega), htl k i hk hi, gMax_I (by omega) (by omega), nI_1]
        exact ⟨_, rfl, rfl⟩
      · rintro s rfl
        unfold f_X0_lookAtMany_b81
        simp only
        rw [if_pos (show (4 : Int32) ≤ nI 4 by decide)]
        exact ⟨_, rfl, rfl⟩
    obtain ⟨y, hy, rfl⟩ := hin
    rw [hy]
    rfl
  · unfold f_X0_lookAtMany_b63
    simp only
    rw [hN4.1.1, if_pos (nI_le (Nat.le_refl _) (by omega))]
end
section
/-! bits counted; the first bit -/
theorem land_256 {x y u v : Nat} (hx : x < 256) (hu : u < 256) : (x + 256 * y) &&& (u + 256 * v) = (x &&& u) + 256 * (y &&& v) := by
  have h1 : ((x + 256 * y) &&& (u + 256 * v)) % 2 ^ 8 = x &&& u := by
    rw [Nat.and_mod_two_pow]
    rw [show (x + 256 * y) % 2 ^ 8 = x by omega, show (u + 256 * v) % 2 ^ 8 = u by omega]
  have h2 : ((x + 256 * y) &&& (u + 256 * v)) / 2 ^ 8 = y &&& v := by
    rw [Nat.and_div_two_pow]
    rw [show (x + 256 * y) / 2 ^ 8 = y by omega, show (u + 256 * v) / 2 ^ 8 = v by omega]
  omega
def rep (c : Nat) : Nat → Nat
  | 0 => 0
  | k + 1 => c + 256 * rep c k
/-- the three steps on so many bytes -/
def bc1 (k n : Nat) : Nat := n - ((n / 2) &&& rep 85 k)
def bc2 (k n : Nat) : Nat := (n &&& rep 51 k) + ((n / 4) &&& rep 51 k)
def bc3 (k n : Nat) : Nat := (n + n / 16) &&& rep 15 k
theorem and_le_l (a b : Nat) : a &&& b ≤ a := Nat.and_le_left
theorem dec1 : ∀ a : Fin 256, ∀ c : Fin 2, ((a.val / 2 + 128 * c.val) &&& 85) = ((a.val / 2) &&& 85) := by decide +kernel
theorem dec2 : ∀ a : Fin 256, ∀ c : Fin 4, ((a.val / 4 + 64 * c.val) &&& 51) = ((a.val / 4) &&& 51) := by decide +kernel
theorem bc1_s {k a b : Nat} (ha : a < 256) : bc1 (k + 1) (a + 256 * b) = (a - ((a / 2) &&& 85)) + 256 * bc1 k b := by
  unfold bc1
  show a + 256 * b - (((a + 256 * b) / 2) &&& (85 + 256 * rep 85 k)) = _
  rw [show (a + 256 * b) / 2 = (a / 2 + 128 * (b % 2)) + 256 * (b / 2) by omega, land_256 (by omega) (by decide), dec1 ⟨a, ha⟩ ⟨b % 2, by omega⟩]
  have h1 := and_le_l (a / 2) 85
  have h2 := and_le_l (b / 2) (rep 85 k)
  simp only at h1 h2 ⊢
  omega
theorem bc2_s {k a b : Nat} (ha : a < 256) : bc2 (k + 1) (a + 256 * b) = ((a &&& 51) + ((a / 4) &&& 51)) + 256 * bc2 k b := by
  unfold bc2
  show ((a + 256 * b) &&& (51 + 256 * rep 51 k)) + (((a + 256 * b) / 4) &&& (51 + 256 * rep 51 k)) = _
  rw [show (a + 256 * b) / 4 = (a / 4 + 64 * (b % 4)) + 256 * (b / 4) by omega, land_256 ha (by decide), land_256 (x := a / 4 + 64 * (b % 4)) (by omega) (by decide), dec2 ⟨a, ha⟩ ⟨b % 4, by omega⟩]
  simp only
  omega
/-- a byte, two steps on -/
def by2 (a : Nat) : Nat := ((a - ((a / 2) &&& 85)) &&& 51) + (((a - ((a / 2) &&& 85)) / 4) &&& 51)
def bits8 (a : Nat) : Nat := su (fun j => if a.testBit j = true then 1 else 0) 8
theorem dec3 : ∀ a : Fin 256, by2 a.val ≤ 68 ∧ by2 a.val % 16 ≤ 4 ∧ ∀ c : Fin 5, ((by2 a.val + by2 a.val / 16 + 16 * c.val) &&& 15) = bits8 a.val := by decide +kernel
def bc12 (k n : Nat) : Nat := bc2 k (bc1 k n)
theorem bc12_s {k a b : Nat} (ha : a < 256) : bc12 (k + 1) (a + 256 * b) = by2 a + 256 * bc12 k b := by
  unfold bc12
  rw [bc1_s ha, bc2_s (by omega)]
  rfl
theorem bc12_m {k b : Nat} : b < 256 ^ k → bc12 k b % 16 ≤ 4 := by
  cases k with
  | zero => intro h; have : b = 0 := by omega
            subst this; decide
  | succ k =>
    intro h
    have e : b = b % 256 + 256 * (b / 256) := by omega
    rw [e, bc12_s (by omega)]
    have := (dec3 ⟨b % 256, by omega⟩).2.1
    simp only at this
    omega
def bc (k n : Nat) : Nat := bc3 k (bc12 k n)
theorem bc_s {k a b : Nat} (ha : a < 256) (hb : b < 256 ^ k) : bc (k + 1) (a + 256 * b) = bits8 a + 256 * bc k b := by
  unfold bc
  rw [bc12_s ha]
  have h1 := dec3 ⟨a, ha⟩
  have h2 := bc12_m hb
  simp only at h1
  generalize bc12 k b = y at *
  unfold bc3
  show ((by2 a + 256 * y) + (by2 a + 256 * y) / 16) &&& (15 + 256 * rep 15 k) = _
  rw [show (by2 a + 256 * y) + (by2 a + 256 * y) / 16 = (by2 a + by2 a / 16 + 16 * (y % 16)) + 256 * (y + y / 16) by omega, land_256 (by omega) (by decide)]
  have := h1.2.2 ⟨y % 16, by omega⟩
  simp only at this
  rw [this]
/-- so many bits are set -/
def nB (n : Nat) : Nat → Nat := su (fun j => if n.testBit j = true then 1 else 0)
theorem su_add (f : Nat → Nat) (m : Nat) : ∀ n, su f (m + n) = su f m + su (fun k => f (m + k)) n := by
  intro n
  induction n with
  | zero => rfl
  | succ n ih => show su f (m + n) + f (m + n) = su f m + (su _ n + f (m + n)); rw [ih, Nat.add_assoc]
theorem su_ext {f g : Nat → Nat} : ∀ n, (∀ k, k < n → f k = g k) → su f n = su g n := by
  intro n
  induction n with
  | zero => intro _; rfl
  | succ n ih => intro h; show su f n + f n = su g n + g n; rw [ih (fun k hk => h k (by omega)), h n (by omega)]
theorem nB_s {a b : Nat} (ha : a < 256) (n : Nat) : nB (a + 256 * b) (8 + n) = bits8 a + nB b n := by
  unfold nB bits8
  rw [su_add]
  congr 1
  · refine su_ext 8 (fun k hk => ?_)
    rw [show a + 256 * b = 2 ^ 8 * b + a by omega, Nat.testBit_two_pow_mul_add b (show a < 2 ^ 8 by omega), if_pos hk]
  · refine su_ext n (fun k hk => ?_)
    rw [show a + 256 * b = 2 ^ 8 * b + a by omega, Nat.testBit_two_pow_mul_add b (show a < 2 ^ 8 by omega), if_neg (show ¬ 8 + k < 8 by omega), show 8 + k - 8 = k by omega]
theorem bits8_le (a : Nat) : bits8 a ≤ 8 := by
  unfold bits8
  have : ∀ n, su (fun j => if a.testBit j = true then 1 else 0) n ≤ n := by
    intro n
    induction n with
    | zero => exact Nat.le_refl _
    | succ n ih => show su _ n + (if a.testBit n = true then 1 else 0) ≤ _; split <;> omega
  exact this 8
theorem bc_bits {n : Nat} (hn : n < 2 ^ 64) : ∃ t0 t1 t2 t3 t4 t5 t6 t7, (t0 ≤ 8 ∧ t1 ≤ 8 ∧ t2 ≤ 8 ∧ t3 ≤ 8 ∧ t4 ≤ 8 ∧ t5 ≤ 8 ∧ t6 ≤ 8 ∧ t7 ≤ 8) ∧ bc 8 n = t0 + 256 * (t1 + 256 * (t2 + 256 * (t3 + 256 * (t4 + 256 * (t5 + 256 * (t6 + 256 * t7)))))) ∧ nB n 64 = t0 + t1 + t2 + t3 + t4 + t5 + t6 + t7 := by
  have st : ∀ k n, n < 256 ^ (k + 1) → ∃ a b, a < 256 ∧ b < 256 ^ k ∧ n = a + 256 * b := fun k n h => ⟨n % 256, n / 256, by omega, by rw [Nat.pow_succ] at h; omega, by omega⟩
  have h0 : n < 256 ^ (7 + 1) := hn
  obtain ⟨a0, b0, ha0, hb0, rfl⟩ := st 7 n h0
  obtain ⟨a1, b1, ha1, hb1, rfl⟩ := st 6 b0 hb0
  obtain ⟨a2, b2, ha2, hb2, rfl⟩ := st 5 b1 hb1
  obtain ⟨a3, b3, ha3, hb3, rfl⟩ := st 4 b2 hb2
  obtain ⟨a4, b4, ha4, hb4, rfl⟩ := st 3 b3 hb3
  obtain ⟨a5, b5, ha5, hb5, rfl⟩ := st 2 b4 hb4
  obtain ⟨a6, b6, ha6, hb6, rfl⟩ := st 1 b5 hb5
  obtain ⟨a7, b7, ha7, hb7, rfl⟩ := st 0 b6 hb6
  have hz : b7 = 0 := by have : (256 : Nat) ^ 0 = 1 := rfl; omega
  subst hz
  refine ⟨bits8 a0, bits8 a1, bits8 a2, bits8 a3, bits8 a4, bits8 a5, bits8 a6, bits8 a7, ⟨bits8_le _, bits8_le _, bits8_le _, bits8_le _, bits8_le _, bits8_le _, bits8_le _, bits8_le _⟩, ?_, ?_⟩
  · rw [bc_s ha0 hb0, bc_s ha1 hb1, bc_s ha2 hb2, bc_s ha3 hb3, bc_s ha4 hb4, bc_s ha5 hb5, bc_s ha6 hb6, bc_s ha7 hb7]
    rfl
  · rw [show (64 : Nat) = 8 + 56 from rfl, nB_s ha0, show (56 : Nat) = 8 + 48 from rfl, nB_s ha1, show (48 : Nat) = 8 + 40 from rfl, nB_s ha2, show (40 : Nat) = 8 + 32 from rfl, nB_s ha3, show (32 : Nat) = 8 + 24 from rfl, nB_s ha4, show (24 : Nat) = 8 + 16 from rfl, nB_s ha5, show (16 : Nat) = 8 + 8 from rfl, nB_s ha6, show nB (a7 + 256 * 0) 8 = nB (a7 + 256 * 0) (8 + 0) from rfl, nB_s ha7]
    show _ + (_ + (_ + (_ + (_ + (_ + (_ + (_ + 0))))))) = _
    omega
/-- a long by its number -/
def lV (x : Int64) : Nat := x.toBitVec.toNat
theorem lV_lt (x : Int64) : lV x < 2 ^ 64 := x.toBitVec.isLt
theorem lV_inj {x y : Int64} (h : lV x = lV y) : x = y := Int64.toBitVec_inj.mp (BitVec.eq_of_toNat_eq h)
theorem lV_add (x y : Int64) : lV (x + y) = (lV x + lV y) % 2 ^ 64 := by
  show (x.toBitVec + y.toBitVec).toNat = _
  rw [BitVec.toNat_add]; rfl
theorem lV_sub {x y : Int64} (h : lV y ≤ lV x) : lV (x - y) = lV x - lV y := by
  show (x.toBitVec - y.toBitVec).toNat = _
  rw [BitVec.toNat_sub]
  have h1 := lV_lt x
  have h2 := lV_lt y
  unfold lV at *
  omega
theorem lV_and (x y : Int64) : lV (x &&& y) = lV x &&& lV y := by
  show (x.toBitVec &&& y.toBitVec).toNat = _
  rw [BitVec.toNat_and]; rfl
theorem ush_b {t : Nat} (h : t < 64) : (((nI t).toInt64.toUInt64 &&& Int64.toUInt64 63).toBitVec % 64#64).toNat = t := by
  have key : ∀ t : Fin 64, (((nI t.val).toInt64.toUInt64 &&& Int64.toUInt64 63).toBitVec % 64#64).toNat = t.val := by decide +kernel
  exact key ⟨t, h⟩
theorem lV_ush (x : Int64) {t : Nat} (h : t < 64) : lV (gUshrL x (nI t)) = lV x / 2 ^ t := by
  unfold gUshrL lV
  show (x.toBitVec >>> (((nI t).toInt64.toUInt64 &&& Int64.toUInt64 63).toBitVec % 64#64)).toNat = _
  rw [BitVec.ushiftRight_eq', BitVec.toNat_ushiftRight, ush_b h, Nat.shiftRight_eq_div_pow]
theorem dv256 {x t u : Nat} (h : x = t + 256 * u) (ht : t < 256) : x / 256 = u := by omega
theorem ad256 {a b s t c d : Nat} (h1 : a = s + 256 * c) (h2 : b = t + 256 * d) : a + b = (s + t) + 256 * (c + d) := by omega
theorem md128 {x t u : Nat} (h : x = t + 256 * u) (ht : t < 128) : x % 128 = t := by omega
theorem sum8 {x5 x7 x9 x11 t0 t1 t2 t3 t4 t5 t6 t7 : Nat} (ht : t0 ≤ 8 ∧ t1 ≤ 8 ∧ t2 ≤ 8 ∧ t3 ≤ 8 ∧ t4 ≤ 8 ∧ t5 ≤ 8 ∧ t6 ≤ 8 ∧ t7 ≤ 8) (h5 : x5 = t0 + 256 * (t1 + 256 * (t2 + 256 * (t3 + 256 * (t4 + 256 * (t5 + 256 * (t6 + 256 * t7))))))) (h7 : x7 = x5 + x5 / 256) (h9 : x9 = x7 + x7 / 65536) (h11 : x11 = x9 + x9 / 4294967296) : x11 % 128 = t0 + t1 + t2 + t3 + t4 + t5 + t6 + t7 := by
  obtain ⟨b0, b1, b2, b3, b4, b5, b6, b7⟩ := ht
  obtain ⟨u8, hu8⟩ : ∃ u : Nat, u = 0 + 256 * 0 := ⟨_, rfl⟩
  obtain ⟨u7, hu7⟩ : ∃ u, u = t7 + 256 * u8 := ⟨_, rfl⟩
  obtain ⟨u6, hu6⟩ : ∃ u, u = t6 + 256 * u7 := ⟨_, rfl⟩
  obtain ⟨u5, hu5⟩ : ∃ u, u = t5 + 256 * u6 := ⟨_, rfl⟩
  obtain ⟨u4, hu4⟩ : ∃ u, u = t4 + 256 * u5 := ⟨_, rfl⟩
  obtain ⟨u3, hu3⟩ : ∃ u, u = t3 + 256 * u4 := ⟨_, rfl⟩
  obtain ⟨u2, hu2⟩ : ∃ u, u = t2 + 256 * u3 := ⟨_, rfl⟩
  obtain ⟨u1, hu1⟩ : ∃ u, u = t1 + 256 * u2 := ⟨_, rfl⟩
  have hu7' : u7 = t7 := by rw [hu7, hu8]; rfl
  have h5' : x5 = t0 + 256 * u1 := by rw [h5, hu1, hu2, hu3, hu4, hu5, hu6, hu7']
  clear h5
  have a1 : x5 / 256 = u1 := dv256 h5' (Nat.lt_of_le_of_lt b0 (by decide))
  rw [a1] at h7
  have v0 := ad256 h5' hu1
  rw [← h7] at v0
  have v1 := ad256 hu1 hu2
  have v2 := ad256 hu2 hu3
  have v3 := ad256 hu3 hu4
  have v4 := ad256 hu4 hu5
  have v5 := ad256 hu5 hu6
  have v6 := ad256 hu6 hu7
  have l2 : ∀ {a b : Nat}, a ≤ 8 → b ≤ 8 → a + b < 256 := fun h1 h2 => Nat.lt_of_le_of_lt (Nat.add_le_add h1 h2) (by decide)
  have l4 : ∀ {a b c d : Nat}, a ≤ 8 → b ≤ 8 → c ≤ 8 → d ≤ 8 → (a + b) + (c + d) < 256 := fun h1 h2 h3 h4 => Nat.lt_of_le_of_lt (Nat.add_le_add (Nat.add_le_add h1 h2) (Nat.add_le_add h3 h4)) (by decide)
  have a2 : x7 / 65536 = u2 + u3 := by
    rw [show (65536 : Nat) = 256 * 256 from rfl, ← Nat.div_div_eq_div_mul, dv256 v0 (l2 b0 b1), dv256 v1 (l2 b1 b2)]
  rw [a2] at h9
  have w0 := ad256 v0 v2
  rw [← h9] at w0
  have w1 := ad256 v1 v3
  have w2 := ad256 v2 v4
  have w3 := ad256 v3 v5
  have w4 := ad256 v4 v6
  have a3 : x9 / 4294967296 = (u4 + u5) + (u6 + u7) := by
    rw [show (4294967296 : Nat) = 256 * 256 * 256 * 256 from rfl, ← Nat.div_div_eq_div_mul, ← Nat.div_div_eq_div_mul, ← Nat.div_div_eq_div_mul, dv256 w0 (l4 b0 b1 b2 b3), dv256 w1 (l4 b1 b2 b3 b4), dv256 w2 (l4 b2 b3 b4 b5), dv256 w3 (l4 b3 b4 b5 b6)]
  rw [a3] at h11
  have z0 := ad256 w0 w4
  rw [← h11] at z0
  rw [md128 z0 (Nat.lt_of_le_of_lt (Nat.add_le_add (Nat.add_le_add (Nat.add_le_add b0 b1) (Nat.add_le_add b2 b3)) (Nat.add_le_add (Nat.add_le_add b4 b5) (Nat.add_le_add b6 b7))) (by decide))]
  clear z0 w0 w1 w2 w3 w4 v0 v1 v2 v3 v4 v5 v6 a1 a2 a3 h5' h7 h9 h11 hu1 hu2 hu3 hu4 hu5 hu6 hu7 hu8 hu7'
  omega
theorem bitCount_nB (x : Int64) : f_J2_bitCount x = nI (nB (lV x) 64) := by
  unfold f_J2_bitCount
  simp only [gLet_e]
  rw [show (1 : Int32) = nI 1 from rfl, show (2 : Int32) = nI 2 from rfl, show (4 : Int32) = nI 4 from rfl, show (8 : Int32) = nI 8 from rfl, show (16 : Int32) = nI 16 from rfl, show (32 : Int32) = nI 32 from rfl]
  have hx := lV_lt x
  have m1 : lV (6148914691236517205 : Int64) = rep 85 8 := by decide +kernel
  have m2 : lV (3689348814741910323 : Int64) = rep 51 8 := by decide +kernel
  have m4 : lV (1085102592571150095 : Int64) = rep 15 8 := by decide +kernel
  -- step 1
  have e1 : lV (x - (gUshrL x (nI 1) &&& 6148914691236517205)) = bc1 8 (lV x) := by
    have h : lV (gUshrL x (nI 1) &&& 6148914691236517205) = (lV x / 2) &&& rep 85 8 := by rw [lV_and, lV_ush x (by decide), m1]
    have hl := and_le_l (lV x / 2) (rep 85 8)
    rw [lV_sub (by rw [h]; omega), h]; rfl
  generalize x - (gUshrL x (nI 1) &&& 6148914691236517205) = x1 at *
  have e2 : lV ((x1 &&& 3689348814741910323) + (gUshrL x1 (nI 2) &&& 3689348814741910323)) = bc12 8 (lV x) := by
    rw [lV_add, lV_and, lV_and, lV_ush x1 (by decide), m2, e1]
    show bc2 8 (bc1 8 (lV x)) % 2 ^ 64 = _
    refine Nat.mod_eq_of_lt ?_
    have h1 := Nat.and_le_right (n := bc1 8 (lV x)) (m := rep 51 8)
    have h2 := Nat.and_le_right (n := bc1 8 (lV x) / 4) (m := rep 51 8)
    have h3 : rep 51 8 = 3689348814741910323 := by decide +kernel
    show (_ &&& rep 51 8) + (_ &&& rep 51 8) < _
    omega
  generalize (x1 &&& 3689348814741910323) + (gUshrL x1 (nI 2) &&& 3689348814741910323) = x3 at *
  obtain ⟨t0, t1, t2, t3, t4, t5, t6, t7, ht, hb, hn⟩ := bc_bits hx
  have hn0 := hn
  have hle3 : bc12 8 (lV x) ≤ 7378697629483820646 := by
    have h1 := Nat.and_le_right (n := bc1 8 (lV x)) (m := rep 51 8)
    have h2 := Nat.and_le_right (n := bc1 8 (lV x) / 4) (m := rep 51 8)
    have h3 : rep 51 8 = 3689348814741910323 := by decide +kernel
    show (_ &&& rep 51 8) + (_ &&& rep 51 8) ≤ _
    omega
  have e3 : lV ((x3 + gUshrL x3 (nI 4)) &&& 1085102592571150095) = bc 8 (lV x) := by
    rw [lV_and, lV_add, lV_ush x3 (by decide), m4, e2]
    rw [Nat.mod_eq_of_lt (by omega)]
    rfl
  generalize (x3 + gUshrL x3 (nI 4)) &&& 1085102592571150095 = x5 at *
  rw [hb] at e3
  have e4 : lV (x5 + gUshrL x5 (nI 8)) = lV x5 + lV x5 / 256 := by
    rw [lV_add, lV_ush x5 (by decide)]
    exact Nat.mod_eq_of_lt (by omega)
  generalize x5 + gUshrL x5 (nI 8) = x7 at *
  have e5 : lV (x7 + gUshrL x7 (nI 16)) = lV x7 + lV x7 / 65536 := by
    rw [lV_add, lV_ush x7 (by decide)]
    exact Nat.mod_eq_of_lt (by omega)
  generalize x7 + gUshrL x7 (nI 16) = x9 at *
  have e6 : lV (x9 + gUshrL x9 (nI 32)) = lV x9 + lV x9 / 4294967296 := by
    rw [lV_add, lV_ush x9 (by decide)]
    exact Nat.mod_eq_of_lt (by omega)
  generalize x9 + gUshrL x9 (nI 32) = x11 at *
  have e7 : lV x11 % 128 = t0 + t1 + t2 + t3 + t4 + t5 + t6 + t7 := sum8 ht e3 e4 e5 e6
  have hn' := hn0
  have e8 : x11.toInt32 &&& 127 = nI (x11.toInt32.toBitVec.toNat % 2 ^ 7) := pk_and x11.toInt32 7 (by decide)
  rw [e8, hn', ← e7]
  apply nI_inj
  have e9 : x11.toInt32.toBitVec.toNat = lV x11 % 2 ^ 32 := by
    show (x11.toBitVec.signExtend 32).toNat = _
    rw [BitVec.signExtend_eq_setWidth_of_le _ (by decide), BitVec.toNat_setWidth]; rfl
  rw [e9]
  omega
theorem bt_lV (x : Int64) (t : Nat) : bt x t = (lV x).testBit t := rfl
end
section
/-! the first bit -/
def nt1 (x1 : Int32) : Int32 := if 0 < x1 then gLet (if x1 ≤ (65536 : Int32) then (x1, (1 : Int32)) else gLet (gUshr x1 (16 : Int32)) fun x26 => (x26, (1 : Int32) + 16)) fun q4 => gLet (if q4.1 ≤ (256 : Int32) then (q4.1, q4.2) else gLet (gUshr q4.1 (8 : Int32)) fun x23 => (x23, q4.2 + 8)) fun q7 => gLet (if q7.1 ≤ (16 : Int32) then (q7.1, q7.2) else gLet (gUshr q7.1 (4 : Int32)) fun x20 => (x20, q7.2 + 4)) fun q10 => gLet (if q10.1 ≤ (4 : Int32) then (q10.1, q10.2) else gLet (gUshr q10.1 (2 : Int32)) fun x17 => (x17, q10.2 + 2)) fun q13 => q13.2 + (gUshr q13.1 (1 : Int32)) else x1 &&& (32 : Int32)
theorem nt_eq (a : Int32) : f_J4_numberOfTrailingZeros a = nt1 ((a ^^^ (-1 : Int32)) &&& (a - (1 : Int32))) := rfl
theorem nt1_t : ∀ t : Fin 32, nt1 (nI (2 ^ t.val - 1)) = nI t.val := by decide +kernel
theorem m1_bits : ∀ i : Fin 32, ((-1 : Int32).toBitVec).getLsbD i.val = true := by decide
theorem ntz32 {x : Int32} {t : Nat} (ht : t < 32) (h : x.toBitVec.toNat % 2 ^ (t + 1) = 2 ^ t) : f_J4_numberOfTrailingZeros x = nI t := by
  rw [nt_eq]
  have hp : 2 ^ t < 2 ^ (t + 1) := Nat.pow_lt_pow_right (by decide) (by omega)
  have hp0 : 0 < 2 ^ t := Nat.two_pow_pos t
  have hp32 : 2 ^ t ≤ 2 ^ 31 := Nat.pow_le_pow_right (by decide) (by omega)
  have hX : x.toBitVec.toNat = 2 ^ (t + 1) * (x.toBitVec.toNat / 2 ^ (t + 1)) + 2 ^ t := by
    have := Nat.div_add_mod x.toBitVec.toNat (2 ^ (t + 1))
    rw [h] at this
    exact this.symm
  have hlt := x.toBitVec.isLt
  generalize hy : x.toBitVec.toNat / 2 ^ (t + 1) = y at hX
  have e : (x ^^^ (-1 : Int32)) &&& (x - (1 : Int32)) = nI (2 ^ t - 1) := by
    apply Int32.toBitVec_inj.mp
    apply BitVec.eq_of_getLsbD_eq
    intro i hi
    show ((x.toBitVec ^^^ (-1 : Int32).toBitVec) &&& (x.toBitVec - 1#32)).getLsbD i = (nI (2 ^ t - 1)).toBitVec.toNat.testBit i
    rw [BitVec.getLsbD_and, BitVec.getLsbD_xor, m1_bits ⟨i, hi⟩, pk_tn (by omega)]
    have e1 : (x.toBitVec - 1#32).toNat = 2 ^ (t + 1) * y + (2 ^ t - 1) := by
      rw [BitVec.toNat_sub, BitVec.toNat_ofNat, hX]
      rw [hX] at hlt
      omega
    show ((x.toBitVec.toNat.testBit i ^^ true) && (x.toBitVec - 1#32).toNat.testBit i) = _
    rw [e1, hX, Nat.testBit_two_pow_mul_add y hp, Nat.testBit_two_pow_mul_add y (show 2 ^ t - 1 < 2 ^ (t + 1) by omega), Nat.testBit_two_pow_sub_one]
    by_cases h1 : i < t + 1
    · rw [if_pos h1, if_pos h1, Nat.testBit_two_pow]
      by_cases h2 : i < t
      · rw [decide_eq_true h2, decide_eq_false (show ¬ t = i by omega)]; rfl
      · rw [decide_eq_false h2, Bool.and_false]
    · rw [if_neg h1, if_neg h1, decide_eq_false (show ¬ i < t by omega)]
      cases y.testBit (i - (t + 1)) <;> rfl
  rw [e]
  exact nt1_t ⟨t, ht⟩
theorem low_mod {N t : Nat} (h1 : N.testBit t = true) (h2 : ∀ j, j < t → N.testBit j = false) : N % 2 ^ (t + 1) = 2 ^ t := by
  apply Nat.eq_of_testBit_eq
  intro i
  rw [Nat.testBit_mod_two_pow, Nat.testBit_two_pow]
  by_cases e : i = t
  · subst e; rw [h1, decide_eq_true (by omega), decide_eq_true rfl]; rfl
  · rw [decide_eq_false (show ¬ t = i from fun z => e z.symm)]
    by_cases h : i < t
    · rw [h2 i h, Bool.and_false]
    · rw [decide_eq_false (by omega), Bool.false_and]
theorem toI_V (x : Int64) : x.toInt32.toBitVec.toNat = lV x % 2 ^ 32 := by
  show (x.toBitVec.signExtend 32).toNat = _
  rw [BitVec.signExtend_eq_setWidth_of_le _ (by decide), BitVec.toNat_setWidth]; rfl
theorem ntz64 {x : Int64} {t : Nat} (ht : t < 64) (h1 : bt x t = true) (h2 : ∀ j, j < t → bt x j = false) : f_J2_numberOfTrailingZeros x = nI t := by
  unfold f_J2_numberOfTrailingZeros
  have hlt := lV_lt x
  rw [bt_lV] at h1
  have h2' : ∀ j, j < t → (lV x).testBit j = false := h2
  by_cases h32 : t < 32
  · have hm : x.toInt32.toBitVec.toNat % 2 ^ (t + 1) = 2 ^ t := by
      rw [toI_V, Nat.mod_mod_of_dvd _ (Nat.pow_dvd_pow 2 (by omega))]
      exact low_mod h1 h2'
    have hne : ¬ x.toInt32 = 0 := by
      intro z
      rw [z] at hm
      have : (0 : Int32).toBitVec.toNat = 0 := by decide
      rw [this, Nat.zero_mod] at hm
      have := Nat.two_pow_pos t
      omega
    rw [if_neg hne]
    exact ntz32 h32 hm
  · have hz : x.toInt32 = 0 := by
      apply Int32.toBitVec_inj.mp
      apply BitVec.eq_of_toNat_eq
      rw [toI_V]
      show lV x % 2 ^ 32 = 0
      apply Nat.eq_of_testBit_eq
      intro i
      rw [Nat.testBit_mod_two_pow, Nat.zero_testBit]
      by_cases h : i < 32
      · rw [h2' i (by omega), Bool.and_false]
      · rw [decide_eq_false h, Bool.false_and]
    rw [if_pos hz]
    have e : (gUshrL x 32).toInt32.toBitVec.toNat = lV x / 2 ^ 32 := by
      rw [toI_V, show (32 : Int32) = nI 32 from rfl, lV_ush x (by decide), Nat.mod_eq_of_lt (by omega)]
    rw [ntz32 (x := (gUshrL x 32).toInt32) (t := t - 32) (by omega) ?_, show (32 : Int32) = nI 32 from rfl, nI_add]
    · apply nI_inj; omega
    · rw [e]
      refine low_mod ?_ (fun j hj => ?_)
      · rw [Nat.testBit_div_two_pow, show t - 32 + 32 = t by omega]; exact h1
      · rw [Nat.testBit_div_two_pow]; exact h2' _ (by omega)
end
section
/-! sets of those that count: with, mostAlike, look, isSettled, ask -/
/-- what the questions read -/
def kS (L : Lt) (G : gP) : Prop := (xNow G L) ∧ (gS G 529 2 = nI L.C.length) ∧ (∀ t, t < L.C.length → akP L G t (L.rd t))
theorem kS.now {L : Lt} {G : gP} (h : kS L G) : (xNow G L) := h.1
theorem kS.many {L : Lt} {G : gP} (h : kS L G) : (gS G 529 2 = nI L.C.length) := h.2.1
theorem kS.asked {L : Lt} {G : gP} (h : kS L G) : (∀ t, t < L.C.length → akP L G t (L.rd t)) := h.2.2
theorem kS.of {L : Lt} {wt : Int32} {G : gP} (h : kJ L wt L.N G) (hN : xNow G L) (h60 : L.C.length ≤ 60) : kS L G :=
  ⟨hN, h.many, fun t ht => h.asked t _ (by omega) (L.rd_C ht)⟩
theorem with_ok {L : Lt} {G : gP} (hL : L.Wf) (hS : kS L G) (h60 : L.C.length ≤ 60) (x : Int64) {k w : Nat} (hk : k < L.n) (hw : w < 32) : Ok (f_X14_with G x (nI k) (nI w)) (fun y => y = L.qW x k w) := by
  have h8 := hL.n8
  unfold f_X14_with
  rw [obs]
  refine Ok.up (fun t s => s = (bS (fun t => bt x t && decide (L.w k (L.pk (L.rd t) k) = w)) t, nI t)) L.C.length (by omega) ?_ ?_ rfl
  · rintro t s ht rfl
    unfold f_X14_with_b6
    simp only
    have hp := hL.pk_lt (r := L.rd t) hk
    have hwt := hL.w32 k _ hk hp
    have e8 : (8 : Int32) * nI t + nI k = nI (8 * t + k) := by rw [nI_lit 8, pk_mul, nI_add]
    rw [hS.many, if_neg (nI_ge ht (by omega)), e8, gIn_t (by omega) (by omega), gck_t, nI_clamp (by omega), (hS.asked t ht).2 k hk]
    have hval : (if gShrL x (nI t) &&& 1 = 1 then if nI (L.w k (L.pk (L.rd t) k)) = nI w then some (gShlL 1 (nI t)) else some 0 else some 0) = some (if (bt x t && decide (L.w k (L.pk (L.rd t) k) = w)) = true then gShlL 1 (nI t) else 0) := by
      cases hb : bt x t with
      | false => rw [if_neg (fun z => by rw [tst_1 x (by omega), hb] at z; cases z)]; rfl
      | true =>
        rw [if_pos ((tst_1 x (by omega)).mpr hb), Bool.true_and]
        by_cases e : L.w k (L.pk (L.rd t) k) = w
        · rw [if_pos (nI_inj e), decide_eq_true e]; rfl
        · rw [if_neg (fun z => e ((nI_eq (by omega) (by omega)).mp z)), decide_eq_false e]; rfl
    rw [hval]
    exact ⟨_, rfl, by simp only [gLet_e]; rw [nI_1]; rfl⟩
  · rintro s rfl
    unfold f_X14_with_b6
    simp only
    rw [hS.many, if_pos (nI_le (Nat.le_refl _) (by omega))]
    exact ⟨_, rfl, rfl⟩
/-- a set of those that count -/
def Lt.sub (L : Lt) (x : Int64) : Prop := ∀ t, t < 64 → bt x t = true → t < L.C.length
theorem Lt.rs_su (L : Lt) (x : Int64) : ∀ t, (L.rs x t).length = su (fun j => if bt x j = true then 1 else 0) t := by
  intro t
  induction t with
  | zero => rfl
  | succ t ih =>
    show (if bt x t = true then L.rs x t ++ [L.rd t] else L.rs x t).length = su _ t + if bt x t = true then 1 else 0
    by_cases h : bt x t = true
    · rw [if_pos h, if_pos h, List.length_append, List.length_singleton, ih]
    · rw [if_neg h, if_neg h, ih, Nat.add_zero]
theorem su_z {f : Nat → Nat} (m : Nat) : ∀ n, (∀ k, m ≤ k → k < m + n → f k = 0) → su f (m + n) = su f m := by
  intro n
  induction n with
  | zero => intro _; rfl
  | succ n ih =>
    intro h
    show su f (m + n) + f (m + n) = _
    rw [ih (fun k h1 h2 => h k h1 (by omega)), h (m + n) (by omega) (by omega), Nat.add_zero]
theorem Lt.bits_qN {L : Lt} (h60 : L.C.length ≤ 60) {x : Int64} (hs : L.sub x) : f_J2_bitCount x = nI (L.qN x) := by
  rw [bitCount_nB]
  unfold Lt.qN
  rw [L.rs_su]
  apply nI_inj
  show su (fun j => if (lV x).testBit j = true then 1 else 0) 64 = _
  have : (64 : Nat) = L.C.length + (64 - L.C.length) := by omega
  rw [this, su_z]
  · rfl
  · intro k h1 h2
    have : (lV x).testBit k = false := by
      cases hb : (lV x).testBit k with
      | false => rfl
      | true => have := hs k (by omega) hb; omega
    rw [this]; rfl
theorem Lt.W_sub {L : Lt} (h60 : L.C.length ≤ 60) (x : Int64) (k w : Nat) : L.sub (L.qW x k w) := by
  intro t _ h
  unfold Lt.qW at h
  rw [bS_b _ _ (by omega), Bool.and_eq_true] at h
  exact of_decide_eq_true h.1
theorem alike1_ok {L : Lt} {G : gP} (hL : L.Wf) (hS : kS L G) (h60 : L.C.length ≤ 60) (x : Int64) {k : Nat} (hk : k < L.n) : Ok (f_X14_mostAlike G x (nI k)) (fun y => y = nI (L.mo x k)) := by
  have h8 := hL.n8
  have hm := hL.m1 k hk
  unfold f_X14_mostAlike Lt.mo
  rw [obs, ← L.mxw hL hk]
  refine Ok.up (fun j s => s = (nI (mx (fun j => L.hv (L.rs x L.C.length) k (L.w k j)) j), nI j)) (L.m k) (by omega) ?_ ?_ rfl
  · rintro j s hj rfl
    unfold f_X14_mostAlike_b6
    simp only
    have hsl := hS.now.1.2.2.2.2 k hk
    have hwj := hL.w32 k j hk hj
    rw [gIn_t (by omega) (by omega), gck_t, nI_clamp (by omega), hS.now.2.ref0 (by omega)]
    simp only [obind_some]
    rw [hsl.1, if_neg (nI_ge hj (by omega)), gck_t, gIn_t (by omega) (by omega), gck_t, nI_clamp (by omega), (hsl.2 j hj).1]
    refine Ok.bind (with_ok hL hS h60 x hk hwj) (fun y hy => ?_)
    subst hy
    rw [L.bits_qN h60 (L.W_sub h60 x k _), L.qN_W h60]
    have hb : ∀ j, L.hv (L.rs x L.C.length) k (L.w k j) ≤ 60 := fun j => Nat.le_trans (L.hv_le _ _ _) (Nat.le_trans (L.rs_len x _) h60)
    have hmx : mx (fun j => L.hv (L.rs x L.C.length) k (L.w k j)) j ≤ 60 := mx_le j (fun i _ => hb i)
    have hbj := hb j
    rw [gMax_I (by omega) (by omega), nI_1]
    exact ⟨_, rfl, rfl⟩
  · rintro s rfl
    unfold f_X14_mostAlike_b6
    simp only
    have hsl := hS.now.1.2.2.2.2 k hk
    rw [gIn_t (by omega) (by omega), gck_t, nI_clamp (by omega), hS.now.2.ref0 (by omega)]
    simp only [obind_some]
    rw [hsl.1, if_pos (nI_le (Nat.le_refl _) (by omega))]
    exact ⟨_, rfl, rfl⟩
theorem lookS_ok {L : Lt} {G : gP} (hL : L.Wf) (hS : kS L G) (h60 : L.C.length ≤ 60) {x : Int64} (hs : L.sub x) : Ok (f_X14_look G x) (fun y => y = rI (L.qL x)) := by
  have h8 := hL.n8
  unfold f_X14_look Lt.qL
  rw [L.bits_qN h60 hs]
  simp only [gLet_e, obs]
  have hqn : L.qN x ≤ 60 := Nat.le_trans (L.qN_le x) h60
  have hmo : ∀ k, L.mo x k ≤ 60 := fun k => mx_le 32 (fun w _ => Nat.le_trans (L.hv_le _ _ _) (Nat.le_trans (L.rs_len x _) h60))
  refine lkL h8 (by omega) (fun k _ => by have := hmo k; omega) (fun o l k hk => ?_) (fun o l => ?_)
  · unfold f_X14_look_b12
    simp only
    rw [hS.now.1.1, if_neg (nI_ge hk (by omega))]
    obtain ⟨y, hy, rfl⟩ := alike1_ok hL hS h60 x hk
    rw [hy]
    rfl
  · unfold f_X14_look_b12
    simp only
    rw [hS.now.1.1, if_pos (nI_le (Nat.le_refl _) (by omega))]
theorem areSame_ok {L : Lt} {G : gP} (hS : kS L G) (h60 : L.C.length ≤ 60) {i j : Nat} (hi : i < L.C.length) (hj : j < L.C.length) : f_X14_areSame G (nI i) (nI j) = some (bI (decide (L.ev (L.rd i) = L.ev (L.rd j)))) := by
  obtain ⟨⟨a, a1, a2, a3, a4⟩, -⟩ := hS.asked i hi
  obtain ⟨⟨b, b1, b2, b3, b4⟩, -⟩ := hS.asked j hj
  have la := a2.2.1
  have lb := b2.2.1
  unfold f_X14_areSame
  rw [gIn_t (by omega) (by omega), gck_t, gIn_t (by omega) (by omega), gck_t, nI_clamp (by omega), nI_clamp (by omega), a3, b3]
  have e0 : (if nI a.length = nI b.length then (1 : Int32) else 0) = bI (decide (a.length = b.length)) := ite_I (by omega) (by omega)
  rw [e0]
  simp only [gLet_e]
  have hl := cmpL (f := f_X14_areSame_b30 (nI i) (nI j) G) (a := 0) (N := 8) (c := fun k => decide (nsF a k = nsF b k)) (by omega) (fun bb k hk => ?_) (fun bb => ?_) (decide (a.length = b.length))
  · obtain ⟨y, hy, rfl⟩ := hl
    rw [show (0 : Int32) = nI 0 from rfl, hy]
    show gck (gZ (bI _)) (some (bI _)) = _
    rw [bI_Z, gck_t, a1, b1]
    congr 2
    by_cases e : a = b
    · subst e
      rw [decide_eq_true rfl, decide_eq_true rfl, (allB_iff _ _).mpr (fun k _ => decide_eq_true rfl)]; rfl
    · rw [decide_eq_false (show ¬ some a = some b from fun z => e (Option.some.inj z))]
      cases hc : (decide (a.length = b.length) && allB (fun k => decide (nsF a k = nsF b k)) 8) with
      | false => rfl
      | true =>
        rw [Bool.and_eq_true] at hc
        exact (e (ns_ext (of_decide_eq_true hc.1) (fun k hk => of_decide_eq_true ((allB_iff _ _).mp hc.2 k (by omega))))).elim
  · rw [Nat.zero_add]
    unfold f_X14_areSame_b30
    simp only
    have e8 : ∀ t : Nat, (8 : Int32) * nI t + nI k = nI (8 * t + k) := fun t => by rw [nI_lit 8, pk_mul, nI_add]
    rw [if_neg (show ¬ (8 : Int32) ≤ nI k from nI_ge (b := 8) hk (by decide))]
    cases bb
    · rw [if_pos (show bI false = 0 from rfl), if_neg (by decide)]
    · have f4 := nsF_le a2 k
      have f5 := nsF_le b2 k
      rw [if_neg (show ¬ bI true = 0 by decide), e8, e8, gIn_t (by omega) (by omega), gck_t, gIn_t (by omega) (by omega), gck_t, nI_clamp (by omega), nI_clamp (by omega), a4 k hk, b4 k hk, if_pos rfl, nI_1]
      by_cases e : nsF a k = nsF b k
      · rw [if_pos (nI_inj e), decide_eq_true e]; rfl
      · rw [if_neg (fun z => e ((nI_eq (by omega) (by omega)).mp z)), decide_eq_false e]; rfl
  · unfold f_X14_areSame_b30
    simp only
    rw [if_pos (show (8 : Int32) ≤ nI (0 + 8) by decide)]
end
section
/-! questions, by the component; count -/
theorem Lt.rd_ev {L : Lt} {t : Nat} (h : t < L.C.length) : ∃ ns, L.ev (L.rd t) = some ns := L.cnt_ev (L.rd_lt h).2
theorem Lt.sm_f1 {L : Lt} {x : Int64} {t0 : Nat} (h0 : t0 < L.C.length) (hb : bt x t0 = true) (hn : ∀ j, j < t0 → bt x j = false) : ∀ t, t ≤ L.C.length → (L.f1 x t = if t ≤ t0 then none else L.ev (L.rd t0)) ∧ (L.sm x t = true ↔ ∀ j, j < t → bt x j = true → L.ev (L.rd j) = L.ev (L.rd t0)) := by
  intro t
  induction t with
  | zero => intro _; exact ⟨by rw [if_pos (Nat.zero_le _)]; rfl, fun _ j hj => by omega, fun _ => rfl⟩
  | succ t ih =>
    intro ht
    obtain ⟨ih1, ih2⟩ := ih (by omega)
    obtain ⟨ns, hns⟩ := L.rd_ev h0
    have hf : L.f1 x (t + 1) = if t + 1 ≤ t0 then none else L.ev (L.rd t0) := by
      show (match L.f1 x t with | some a => some a | none => if bt x t = true then L.ev (L.rd t) else none) = _
      rw [ih1]
      by_cases h1 : t ≤ t0
      · rw [if_pos h1]
        simp only
        by_cases h2 : t = t0
        · subst h2; rw [if_pos hb, if_neg (by omega)]
        · rw [if_neg (by rw [hn t (by omega)]; decide), if_pos (by omega)]
      · rw [if_neg h1, if_neg (show ¬ t + 1 ≤ t0 by omega), hns]
    refine ⟨hf, ?_⟩
    show (if bt x t = true then L.sm x t && decide (L.ev (L.rd t) = L.f1 x (t + 1)) else L.sm x t) = true ↔ _
    by_cases hbt : bt x t = true
    · rw [if_pos hbt, hf]
      have hge : ¬ t + 1 ≤ t0 := fun z => by rw [hn t (by omega)] at hbt; cases hbt
      rw [if_neg hge, Bool.and_eq_true, ih2]
      constructor
      · rintro ⟨a, b⟩ j hj hbj
        by_cases e : j = t
        · subst e; exact of_decide_eq_true b
        · exact a j (by omega) hbj
      · intro a
        exact ⟨fun j hj hbj => a j (by omega) hbj, decide_eq_true (a t (by omega) hbt)⟩
    · rw [if_neg hbt, ih2]
      constructor
      · intro a j hj hbj
        by_cases e : j = t
        · subst e; exact (hbt hbj).elim
        · exact a j (by omega) hbj
      · intro a j hj hbj
        exact a j (by omega) hbj
theorem settled_ok {L : Lt} {G : gP} (hS : kS L G) (h60 : L.C.length ≤ 60) {x : Int64} (h1 : L.qN x ≠ 0) : Ok (f_X14_isSettled G x) (fun y => y = bI (L.sm x L.C.length)) := by
  have hex : ∃ t, t < L.C.length ∧ bt x t = true := by
    apply Classical.byContradiction
    intro z
    apply h1
    rw [L.qN_0]
    intro i hi
    cases hb : bt x i with
    | false => rfl
    | true => exact (z ⟨i, hi, hb⟩).elim
  obtain ⟨t0, ⟨h0, hb⟩, hmin⟩ := pk_least (fun t => t < L.C.length ∧ bt x t = true) hex
  have hn : ∀ j, j < t0 → bt x j = false := fun j hj => by
    cases hc : bt x j with
    | false => rfl
    | true => exact (hmin j hj ⟨by omega, hc⟩).elim
  obtain ⟨-, hsm⟩ := L.sm_f1 h0 hb hn L.C.length (Nat.le_refl _)
  unfold f_X14_isSettled
  rw [ntz64 (by omega) hb hn]
  simp only [gLet_e]
  refine Ok.bind (Q := fun y => y = bI (L.sm x L.C.length)) ?_ (fun y hy => by subst hy; rw [bI_Z, gck_t]; exact ⟨_, rfl, rfl⟩)
  have hl := cmpL (f := f_X14_isSettled_b11 G x (nI t0)) (a := t0) (N := L.C.length - t0) (c := fun k => !bt x (t0 + k) || decide (L.ev (L.rd t0) = L.ev (L.rd (t0 + k)))) (by omega) (fun bb k hk => ?_) (fun bb => ?_) true
  · refine hl.imp ?_
    rintro y rfl
    congr 1
    rw [Bool.true_and]
    have key : allB (fun k => !bt x (t0 + k) || decide (L.ev (L.rd t0) = L.ev (L.rd (t0 + k)))) (L.C.length - t0) = true ↔ L.sm x L.C.length = true := by
      rw [allB_iff, hsm]
      constructor
      · intro h j hj hbj
        have hge : t0 ≤ j := Nat.le_of_not_lt (fun z => by rw [hn j z] at hbj; cases hbj)
        have := h (j - t0) (by omega)
        rw [show t0 + (j - t0) = j by omega, hbj] at this
        have h3 : L.ev (L.rd t0) = L.ev (L.rd j) := by simpa using this
        exact h3.symm
      · intro h k hk
        cases hbk : bt x (t0 + k) with
        | false => rfl
        | true =>
          have := h (t0 + k) (by omega) hbk
          rw [decide_eq_true this.symm]; rfl
    cases hA : allB (fun k => !bt x (t0 + k) || decide (L.ev (L.rd t0) = L.ev (L.rd (t0 + k)))) (L.C.length - t0) with
    | true => exact (key.mp hA).symm
    | false =>
      cases hB : L.sm x L.C.length with
      | false => rfl
      | true => rw [key.mpr hB] at hA; cases hA
  · unfold f_X14_isSettled_b11
    simp only
    rw [hS.many, if_neg (nI_ge (show t0 + k < L.C.length by omega) (by omega))]
    cases bb
    · rw [if_pos (show bI false = 0 from rfl), if_neg (by decide)]
    · rw [if_neg (show ¬ bI true = 0 by decide), if_pos rfl]
      cases hbk : bt x (t0 + k) with
      | false =>
        rw [if_pos ((tst_0 x (by omega)).mpr hbk), nI_1]; rfl
      | true =>
        rw [if_neg (fun z => by rw [tst_0 x (by omega), hbk] at z; cases z), areSame_ok hS h60 h0 (show t0 + k < L.C.length by omega)]
        by_cases e : L.ev (L.rd t0) = L.ev (L.rd (t0 + k))
        · rw [decide_eq_true e, nI_1]; rfl
        · rw [decide_eq_false e, nI_1]; rfl
  · unfold f_X14_isSettled_b11
    simp only
    rw [hS.many, if_pos (nI_le (by omega) (by omega))]
theorem xask_ok {L : Lt} {G : gP} (hL : L.Wf) (hS : kS L G) (h60 : L.C.length ≤ 60) : ∀ n x, L.sub x → L.qN x ≠ 0 → L.qN x ≤ n → ∀ dd, n < dd → Ok (f_X14_ask dd G x) (fun y => y = nI (L.ask x)) := by
  have h8 := hL.n8
  intro n
  induction n with
  | zero => intro x _ h1 h2; omega
  | succ n ih =>
    intro x hs h1 h2 dd hdd
    obtain ⟨dd, rfl⟩ : ∃ d, dd = d + 1 := ⟨dd - 1, by omega⟩
    unfold f_X14_ask
    refine Ok.bind (settled_ok hS h60 h1) (fun y hy => ?_)
    subst hy
    rw [L.ask_eq hL h60 x]
    cases hsm : L.sm x L.C.length with
    | true =>
      rw [if_neg (show ¬ bI true = 0 by decide), if_pos rfl, obind_some, if_neg m4_neg]
      exact ⟨_, rfl, rfl⟩
    | false =>
      rw [if_pos (show bI false = 0 from rfl), if_neg (by decide), obs]
      refine Ok.bind (lookS_ok hL hS h60 hs) (fun y hy => ?_)
      subst hy
      cases hq : L.qL x with
      | none =>
        rw [rI_none, if_neg m4_neg]
        exact ⟨_, rfl, rfl⟩
      | some k =>
        have hk : k < L.n := (lk_some _ _ _ _ hq).1
        have hm := hL.m1 k hk
        have er : rI (some k) = nI k := rfl
        rw [er, if_pos (nI_pos' (by omega))]
        simp only
        refine Ok.bind (Q := fun y => y = nI (mx (fun c => if L.qW x k (L.w k c) = 0 then 0 else L.ask (L.qW x k (L.w k c))) (L.m k))) ?_ (fun y hy => ⟨_, rfl, by subst hy; rw [nI_1]⟩)
        refine Ok.up (fun j s => s = (nI (mx (fun c => if L.qW x k (L.w k c) = 0 then 0 else L.ask (L.qW x k (L.w k c))) j), nI j)) (L.m k) (by omega) ?_ ?_ rfl
        · rintro j s hj rfl
          unfold f_X14_ask_b31
          simp only
          have hsl := hS.now.1.2.2.2.2 k hk
          have hwj := hL.w32 k j hk hj
          rw [gIn_t (by omega) (by omega), gck_t, nI_clamp (by omega), hS.now.2.ref0 (by omega)]
          simp only [obind_some]
          rw [hsl.1, if_neg (nI_ge hj (by omega)), gck_t, gIn_t (by omega) (by omega), gck_t, nI_clamp (by omega), (hsl.2 j hj).1]
          refine Ok.bind (with_ok hL hS h60 x hk hwj) (fun y hy => ?_)
          subst hy
          have hstep : mx (fun c => if L.qW x k (L.w k c) = 0 then 0 else L.ask (L.qW x k (L.w k c))) (j + 1) = if mx (fun c => if L.qW x k (L.w k c) = 0 then 0 else L.ask (L.qW x k (L.w k c))) j < (if L.qW x k (L.w k j) = 0 then 0 else L.ask (L.qW x k (L.w k j))) then (if L.qW x k (L.w k j) = 0 then 0 else L.ask (L.qW x k (L.w k j))) else mx (fun c => if L.qW x k (L.w k c) = 0 then 0 else L.ask (L.qW x k (L.w k c))) j := rfl
          by_cases h0 : L.qW x k (L.w k j) = 0
          · rw [if_pos h0] at hstep
            rw [if_pos h0]
            refine ⟨_, rfl, ?_⟩
            simp only
            rw [hstep, if_neg (Nat.not_lt_zero _), nI_1]
          · rw [if_neg h0] at hstep
            rw [if_neg h0]
            have hlt := L.W_lt h60 (w := L.w k j) hq hwj
            have hne : L.qN (L.qW x k (L.w k j)) ≠ 0 := fun z => h0 ((L.W_0 h60 x k _).mpr z)
            refine Ok.bind (ih _ (L.W_sub h60 x k _) hne (by omega) dd (by omega)) (fun y hy => ?_)
            subst hy
            have ha : ∀ z, L.ask z ≤ 60 := fun z => L.ask_le hL h60 60 z (Nat.le_trans (L.qN_le z) h60)
            have haj := ha (L.qW x k (L.w k j))
            have hmx : mx (fun c => if L.qW x k (L.w k c) = 0 then 0 else L.ask (L.qW x k (L.w k c))) j ≤ 60 := mx_le j (fun c _ => by
              show (if L.qW x k (L.w k c) = 0 then 0 else L.ask (L.qW x k (L.w k c))) ≤ 60
              split
              · omega
              · exact ha _)
            refine ⟨_, rfl, ?_⟩
            simp only
            rw [hstep, gMax_I (by omega) (by omega), nI_1]
        · rintro s rfl
          unfold f_X14_ask_b31
          simp only
          have hsl := hS.now.1.2.2.2.2 k hk
          rw [gIn_t (by omega) (by omega), gck_t, nI_clamp (by omega), hS.now.2.ref0 (by omega)]
          simp only [obind_some]
          rw [hsl.1, if_pos (nI_le (Nat.le_refl _) (by omega))]
          exact ⟨_, rfl, rfl⟩
/-- all that count -/
theorem Lt.all_bt {L : Lt} (h60 : L.C.length ≤ 60) {i : Nat} (hi : i < 64) : bt (gShlL 1 (nI L.C.length) - 1) i = decide (i < L.C.length) := msk_b (by omega) hi
theorem Lt.all_sub {L : Lt} (h60 : L.C.length ≤ 60) : L.sub (gShlL 1 (nI L.C.length) - 1) := fun t ht h => by
  rw [L.all_bt h60 ht] at h
  exact of_decide_eq_true h
theorem Lt.rs_all {L : Lt} {x : Int64} : ∀ t, t ≤ L.C.length → (∀ j, j < t → bt x j = true) → L.rs x t = L.C.take t := by
  intro t
  induction t with
  | zero => intro _ _; rfl
  | succ t ih =>
    intro ht h
    show (if bt x t = true then L.rs x t ++ [L.rd t] else L.rs x t) = _
    rw [if_pos (h t (by omega)), ih (by omega) (fun j hj => h j (by omega)), List.take_add_one, L.rd_C (by omega)]
    rfl
theorem Lt.rs_C {L : Lt} (h60 : L.C.length ≤ 60) : L.rs (gShlL 1 (nI L.C.length) - 1) L.C.length = L.C := by
  rw [L.rs_all _ (Nat.le_refl _) (fun j hj => by rw [L.all_bt h60 (by omega), decide_eq_true hj]), List.take_length]
theorem xall {L : Lt} {G : gP} (h : gS G 529 2 = nI L.C.length) : f_X14_all G = gShlL 1 (nI L.C.length) - 1 := by
  unfold f_X14_all
  rw [h]
theorem xquestions_ok {G : gP} {L : Lt} (hL : L.Wf) (hN : xNow G L) (hK : xRk G) : Ok (f_X0_questions G) (qA G L.qs) := by
  unfold f_X0_questions Lt.qs
  have hNl := hL.N_le
  have hCl : L.C.length ≤ L.N := L.cl_len L.N
  refine Ok.bind (countedOnes_ok hL hN hK _) (fun G1 h1 => ?_)
  obtain ⟨hJ, hq⟩ := h1
  have hm : gS G1 529 2 = nI L.C.length := hJ.many
  rw [xall hm, hm]
  by_cases h0 : L.C.length = 0
  · rw [if_pos ((nI_eq0 (by omega)).mpr h0), if_pos (Or.inl h0)]
    exact ⟨_, rfl, hq, rfl⟩
  · rw [if_neg (fun z => h0 ((nI_eq0 (by omega)).mp z))]
    by_cases h60 : L.C.length ≤ 60
    · rw [if_pos (show nI L.C.length ≤ 60 from nI_le (b := 60) h60 (by decide)), if_neg (by omega)]
      have hne : L.qN (gShlL 1 (nI L.C.length) - 1) ≠ 0 := by
        unfold Lt.qN; rw [L.rs_C h60]; exact h0
      refine Ok.bind (xask_ok hL (kS.of hJ (hq.now hL hN) h60) h60 60 _ (L.all_sub h60) hne (Nat.le_trans (L.qN_le _) h60) 61 (by decide)) (fun y hy => ⟨_, rfl, hq, hy⟩)
    · rw [if_neg (show ¬ nI L.C.length ≤ 60 from nI_ge (a := 60) (by omega) (by omega)), if_pos (Or.inr (by omega))]
      exact ⟨_, rfl, hq, rfl⟩
theorem xlook_ok {G : gP} {L : Lt} (hL : L.Wf) (hN : xNow G L) (hK : xRk G) : Ok (f_X0_look G) (qA G (rI (lk (fun k => mx (L.hv L.C k) 32) L.C.length L.n).1)) := by
  unfold f_X0_look
  have hNl := hL.N_le
  have hCl : L.C.length ≤ L.N := L.cl_len L.N
  refine Ok.bind (countedOnes_ok hL hN hK _) (fun G1 h1 => ?_)
  obtain ⟨hJ, hq⟩ := h1
  have hm : gS G1 529 2 = nI L.C.length := hJ.many
  rw [xall hm, hm]
  by_cases h60 : 60 < L.C.length
  · rw [if_pos (show (60 : Int32) < nI L.C.length from nI_lt (a := 60) h60 (by omega))]
    cases hB : L.B with
    | none => rw [L.C_none hL hB] at h60; simp at h60
    | some b =>
      refine Ok.bind (lookMany_ok hL (hq.now hL hN) (hK.same hq.2) hB) (fun q h2 => ⟨_, rfl, hq.tr h2.1, h2.2⟩)
  · rw [if_neg (show ¬ (60 : Int32) < nI L.C.length from nI_nlt (b := L.C.length) (a := 60) (by omega) (by decide))]
    refine Ok.bind (lookS_ok hL (kS.of hJ (hq.now hL hN) (by omega)) (by omega) (L.all_sub (by omega))) (fun y hy => ⟨_, rfl, hq, ?_⟩)
    simp only
    rw [hy]
    unfold Lt.qL Lt.mo Lt.qN
    rw [L.rs_C (by omega)]
theorem xcount_ok {G : gP} {L : Lt} (hL : L.Wf) (hN : xNow G L) (hK : xRk G) {u : Nat} (hu : gS G 0 16 = nI u) (a : Int32) : Ok (f_X0_count G a) (qA G (sCount L u a)) := by
  unfold f_X0_count sCount
  refine Ok.ite (fun h => ?_) (fun h => ?_)
  · rw [if_pos h]; exact ⟨_, rfl, qP.rf, hN.1.1⟩
  rw [if_neg h]; clear h
  refine Ok.ite (fun h => ?_) (fun h => ?_)
  · rw [if_pos h]; exact ⟨_, rfl, qP.rf, hN.1.2.1⟩
  rw [if_neg h]; clear h
  refine Ok.ite (fun h => ?_) (fun h => ?_)
  · rw [if_pos h]; exact ⟨_, rfl, qP.rf, hN.1.2.2.1⟩
  rw [if_neg h]; clear h
  refine Ok.ite (fun h => ?_) (fun h => ?_)
  · rw [if_pos h]; exact Ok.bind (first_ok hL hN hK) (fun G1 h1 => ⟨_, rfl, h1.2, h1.1.said⟩)
  rw [if_neg h]; clear h
  refine Ok.ite (fun h => ?_) (fun h => ?_)
  · rw [if_pos h]; exact Ok.bind (first_ok hL hN hK) (fun G1 h1 => ⟨_, rfl, h1.2, h1.1.snd⟩)
  rw [if_neg h]; clear h
  refine Ok.ite (fun h => ?_) (fun h => ?_)
  · rw [if_pos h]; exact Ok.bind (countedOnes_ok hL hN hK _) (fun G1 h1 => ⟨_, rfl, h1.2, h1.1.many⟩)
  rw [if_neg h]; clear h
  refine Ok.ite (fun h => ?_) (fun h => ?_)
  · rw [if_pos h]; exact Ok.bind (xlook_ok hL hN hK) (fun q hq => ⟨_, rfl, hq.1, hq.2⟩)
  rw [if_neg h]; clear h
  refine Ok.ite (fun h => ?_) (fun h => ?_)
  · rw [if_pos h]; exact Ok.bind (xquestions_ok hL hN hK) (fun q hq => ⟨_, rfl, hq.1, hq.2⟩)
  rw [if_neg h]; clear h
  refine Ok.ite (fun h => ?_) (fun h => ?_)
  · rw [if_pos h]; exact Ok.bind (xnext_ok hL hN hK) (fun q hq => ⟨_, rfl, hq.1, hq.2⟩)
  rw [if_neg h]; clear h
  refine Ok.ite (fun h => ?_) (fun h => ?_)
  · rw [if_pos h]; exact Ok.bind (xspoilt_ok hL hN hK) (fun q hq => ⟨_, rfl, hq.1, hq.2⟩)
  rw [if_neg h]; clear h
  refine Ok.ite (fun h => ?_) (fun h => ?_)
  · rw [if_pos h]; exact ⟨_, rfl, qP.rf, hu⟩
  rw [if_neg h]
  exact ⟨_, rfl, qP.rf, rfl⟩
theorem xslot_ok {G : gP} {L : Lt} (hL : L.Wf) (hN : xNow G L) (a k w : Int32) : Ok (f_X0_slot G a k w) (fun r => r = sSlot L a k w) := by
  unfold f_X0_slot sSlot
  have h8 := hL.n8
  rw [xisSlot_rg h8 hN.1.1, isIn_rg w (lo := 0) (hi := 2) rfl rfl]
  cases ha : rg a 0 L.n with
  | none => exact ⟨_, rfl, rfl⟩
  | some s =>
    obtain ⟨-, hs, rfl⟩ := rg_some ha
    simp only [Option.isSome_some, if_true]
    rw [if_neg (by decide)]
    by_cases hk : k < -1
    · rw [if_pos hk, if_pos hk]; exact ⟨_, rfl, rfl⟩
    rw [if_neg hk, if_neg hk]
    cases hw : rg w 0 2 with
    | none => exact ⟨_, rfl, rfl⟩
    | some wn =>
      obtain ⟨-, hwn, rfl⟩ := rg_some hw
      simp only [Option.isSome_some, if_true]
      rw [if_neg (by decide), gIn_t (by omega) (by omega), gck_t, nI_clamp (by omega), hN.2.ref0 (by omega)]
      simp only [obind_some]
      have hsl := hN.1.2.2.2.2 s hs
      have hm := hL.m1 s hs
      rw [hsl.1]
      by_cases h0 : 0 ≤ k
      · rw [if_pos h0]
        have hnk : ¬ k < 0 := by
          intro z
          have x1 := Int32.le_iff_toInt_le.mp h0
          have x2 := Int32.lt_iff_toInt_lt.mp z
          omega
        obtain ⟨j, hj, rfl⟩ := nI_of hnk
        rw [if_neg (show ¬ nI j = -1 from fun z => by
          have := congrArg Int32.toInt z
          rw [nI_toInt hj] at this
          have e : ((-1 : Int32)).toInt = -1 := by decide
          omega), rg_nI hj]
        by_cases hjm : j < L.m s
        · rw [if_pos (nI_lt hjm (by omega)), if_pos (show 0 ≤ j ∧ j < L.m s from ⟨by omega, hjm⟩), gIn_t hj (show j < 4 by omega), gck_t, gck_t, nI_clamp hj, (hsl.2 j hjm).1, (hsl.2 j hjm).2]
          simp only
          by_cases w0 : wn = 0
          · subst w0
            rw [if_pos (show nI 0 = 0 from rfl), if_pos rfl]; exact ⟨_, rfl, rfl⟩
          · rw [if_neg (nI_ne0 (by omega) (by omega)), if_neg w0]; exact ⟨_, rfl, rfl⟩
        · rw [if_neg (nI_nlt (by omega) hj), if_neg (fun z => hjm z.2)]
          exact ⟨_, rfl, rfl⟩
      · rw [if_neg h0]
        have : k = -1 := by
          apply Int32.toInt_inj.mp
          have x1 : ¬ (0 : Int) ≤ k.toInt := fun z => h0 (Int32.le_iff_toInt_le.mpr z)
          have x2 : ¬ k.toInt < -1 := fun z => hk (Int32.lt_iff_toInt_lt.mpr z)
          show k.toInt = -1
          omega
        rw [if_pos this]
        exact ⟨_, rfl, rfl⟩
end
section
/-! the component's state; slots and lattices are copied -/
def paO (G : gP) (j : Nat) : Nat := (gR G 11 j).getD 0
def xPa (G : gP) : Prop := (∀ j, j < 8 → gR G 11 j = some (paO G j) ∧ ∃ p, p < 8 ∧ paO G j = 32 + 26 * (3 + p)) ∧ ∀ i j, i < 8 → j < 8 → paO G i = paO G j → i = j
def laT (k : Nat) : Nat := if k = 0 then 103 else if k = 1 then 104 else if k = 2 then 100 else 101
/-- what a row's item is worth -/
def shV (G : gP) (k r i : Nat) : Int64 := if k = 3 then gL G r i else (gS G r i).toInt64
def xSh (T : Nat → Nat × Nat) (G : gP) (s : Nat) (o : Option (Nat × List Int64)) : Prop := match o with
  | none => gR G (28 + s) 0 = none
  | some (k, l) => gR G (28 + s) 0 = some (539 + s) ∧ T (539 + s) = (laT k, l.length) ∧ ∀ i v, l[i]? = some v → shV G k (539 + s) i = v
def xKp (G : gP) (o : Option (Lt × List Lt)) : Prop := match o with
  | none => gS G 0 20 = 0
  | some (L, p) => gS G 0 20 = 1 ∧ gS G 0 19 = nI p.length ∧ xLt G 84 L ∧ ∀ i L', p[i]? = some L' → xLt G (32 + 26 * (11 + i)) L'
def xSt (S : St) (T : Nat → Nat × Nat) (G : gP) : Prop := (xRk G) ∧ (∀ i, i < 19 → xSg G (32 + 26 * i)) ∧ (xPa G) ∧ (∀ j, j < 8 → gR G 12 j = some (32 + 26 * (11 + j))) ∧ (xLt G 32 S.now) ∧ (gS G 0 16 = nI S.past.length) ∧ (∀ i L, S.past[i]? = some L → xLt G (paO G i) L) ∧ (xKp G S.kept) ∧ (gS G 0 11 = nI S.tape.length) ∧ (aL G 9 0 S.tape) ∧ (∀ s, s < 4 → xSh T G s (S.sh s))
theorem xSt.rk {S : St} {T : Nat → Nat × Nat} {G : gP} (h : xSt S T G) : (xRk G) := h.1
theorem xSt.sg {S : St} {T : Nat → Nat × Nat} {G : gP} (h : xSt S T G) : (∀ i, i < 19 → xSg G (32 + 26 * i)) := h.2.1
theorem xSt.pa {S : St} {T : Nat → Nat × Nat} {G : gP} (h : xSt S T G) : (xPa G) := h.2.2.1
theorem xSt.ka {S : St} {T : Nat → Nat × Nat} {G : gP} (h : xSt S T G) : (∀ j, j < 8 → gR G 12 j = some (32 + 26 * (11 + j))) := h.2.2.2.1
theorem xSt.now {S : St} {T : Nat → Nat × Nat} {G : gP} (h : xSt S T G) : (xLt G 32 S.now) := h.2.2.2.2.1
theorem xSt.un {S : St} {T : Nat → Nat × Nat} {G : gP} (h : xSt S T G) : (gS G 0 16 = nI S.past.length) := h.2.2.2.2.2.1
theorem xSt.past {S : St} {T : Nat → Nat × Nat} {G : gP} (h : xSt S T G) : (∀ i L, S.past[i]? = some L → xLt G (paO G i) L) := h.2.2.2.2.2.2.1
theorem xSt.kept {S : St} {T : Nat → Nat × Nat} {G : gP} (h : xSt S T G) : (xKp G S.kept) := h.2.2.2.2.2.2.2.1
theorem xSt.tp {S : St} {T : Nat → Nat × Nat} {G : gP} (h : xSt S T G) : (gS G 0 11 = nI S.tape.length) := h.2.2.2.2.2.2.2.2.1
theorem xSt.tape {S : St} {T : Nat → Nat × Nat} {G : gP} (h : xSt S T G) : (aL G 9 0 S.tape) := h.2.2.2.2.2.2.2.2.2.1
theorem xSt.sh {S : St} {T : Nat → Nat × Nat} {G : gP} (h : xSt S T G) : (∀ s, s < 4 → xSh T G s (S.sh s)) := h.2.2.2.2.2.2.2.2.2.2
theorem xSt.xn {S : St} {T : Nat → Nat × Nat} {G : gP} (h : xSt S T G) : xNow G S.now := ⟨h.now, h.sg 0 (by omega)⟩
theorem xPa.same {G G' : gP} (h : xPa G) (hr : rSame G G') : xPa G' := by
  have e : ∀ j, paO G' j = paO G j := fun j => by unfold paO; rw [hr]
  exact ⟨fun j hj => by rw [e, hr]; exact h.1 j hj, fun i j hi hj => by rw [e, e]; exact h.2 i j hi hj⟩
theorem xSh.off {Z : Nat → Nat → Bool} {T : Nat → Nat × Nat} {G G' : gP} {s : Nat} {o : Option (Nat × List Int64)} (h : xSh T G s o) (hO : gOff Z G G') (hr : gR G' (28 + s) 0 = gR G (28 + s) 0) (z : ∀ j, Z (539 + s) j = false) : xSh T G' s o := by
  cases o with
  | none => show gR G' _ _ = none; rw [hr]; exact h
  | some q =>
    obtain ⟨k, l⟩ := q
    obtain ⟨h1, h2, h3⟩ := h
    refine ⟨by rw [hr]; exact h1, h2, fun i v hi => ?_⟩
    have := h3 i v hi
    unfold shV at this ⊢
    rw [(hO (539 + s) i (z i)).1, (hO (539 + s) i (z i)).2.1]; exact this
/-- lattices lie apart -/
theorem xSt.frame {Z : Nat → Nat → Bool} {S : St} {T : Nat → Nat × Nat} {G G' : gP} {L : Lt} (h : xSt S T G) (hW : S.Wf) (hO : gOff Z G G') (hr : ∀ k j, k ≠ 33 → gR G' k j = gR G k j) (hs0 : xSg G' 32) (hk : xRk G') (z : ∀ k j, (k = 0 ∧ (j = 11 ∨ j = 16 ∨ j = 19 ∨ j = 20)) ∨ k = 9 ∨ (84 ≤ k ∧ k < 526) ∨ 539 ≤ k → Z k j = false) (hn : xLt G' 32 L) : xSt (St.of (L) (S.past) (S.kept) (S.tape) (S.sh)) T G' := by
  have hsgO : ∀ i j, 0 < i → sgO G' (32 + 26 * i) j = sgO G (32 + 26 * i) j := fun i j hi => by unfold sgO; rw [hr _ _ (by omega)]
  have hsg : ∀ i, i < 19 → xSg G' (32 + 26 * i) := by
    intro i hi
    by_cases h0 : i = 0
    · subst h0; exact hs0
    · refine ⟨fun j hj => ?_, fun a b ha hb => ?_⟩
      · rw [hsgO i j (by omega), hr _ _ (by omega)]; exact (h.sg i hi).1 j hj
      · rw [hsgO i a (by omega), hsgO i b (by omega)]; exact (h.sg i hi).2 a b ha hb
  have hl : ∀ i L, 2 ≤ i → i < 19 → L.n ≤ 8 → xLt G (32 + 26 * i) L → xLt G' (32 + 26 * i) L := by
    intro i L hi hi2 h8 hx
    obtain ⟨h1, h2, h3, h4, h5⟩ := hx
    refine ⟨?_, ?_, ?_, ?_, fun p hp => ?_⟩
    · rw [(hO _ 1 (z _ _ (by omega))).1]; exact h1
    · rw [(hO _ 2 (z _ _ (by omega))).1]; exact h2
    · rw [(hO _ 3 (z _ _ (by omega))).1]; exact h3
    · rw [(hO _ 4 (z _ _ (by omega))).1]; exact h4
    · rw [hsgO i p (by omega)]
      have := (h.sg i hi2).rng (j := p) (by omega)
      exact (h5 p hp).off hO (fun k j a b => z k j (by omega))
  have hpa : ∀ j, paO G' j = paO G j := fun j => by unfold paO; rw [hr _ _ (by omega)]
  refine ⟨hk, hsg, ⟨fun j hj => by rw [hpa, hr _ _ (by omega)]; exact h.pa.1 j hj, fun i j hi hj => by rw [hpa, hpa]; exact h.pa.2 i j hi hj⟩, fun j hj => by rw [hr _ _ (by omega)]; exact h.ka j hj, hn, ?_, fun i L' hi => ?_, ?_, ?_, ?_, fun s hs => ?_⟩
  · rw [(hO 0 16 (z _ _ (by omega))).1]; exact h.un
  · have hil : i < S.past.length := (List.getElem?_eq_some_iff.mp hi).1
    have hp8 := hW.p8
    rw [hpa]
    obtain ⟨-, p, hp, e⟩ := h.pa.1 i (by omega)
    have := h.past i L' hi
    rw [e] at this ⊢
    exact hl _ L' (by omega) (by omega) (hW.past L' (List.mem_of_getElem? hi)).n8 this
  · have hkk := h.kept
    show xKp G' S.kept
    cases hS : S.kept with
    | none => rw [hS] at hkk; show gS G' 0 20 = 0; rw [(hO 0 20 (z _ _ (by omega))).1]; exact hkk
    | some q =>
      obtain ⟨Lk, p⟩ := q
      rw [hS] at hkk
      obtain ⟨k1, k2, k3, k4⟩ := hkk
      obtain ⟨w1, w2, w3⟩ := hW.kept Lk p hS
      refine ⟨by rw [(hO 0 20 (z _ _ (by omega))).1]; exact k1, by rw [(hO 0 19 (z _ _ (by omega))).1]; exact k2, hl 2 Lk (by omega) (by omega) w1.n8 k3, fun i L' hi => ?_⟩
      have hil : i < p.length := (List.getElem?_eq_some_iff.mp hi).1
      exact hl (11 + i) L' (by omega) (by omega) (w2 L' (List.mem_of_getElem? hi)).n8 (k4 i L' hi)
  · rw [(hO 0 11 (z _ _ (by omega))).1]; exact h.tp
  · intro j v hj; rw [(hO 9 _ (z _ _ (by omega))).1]; exact h.tape j v hj
  · exact (h.sh s hs).off hO (hr _ _ (by omega)) (fun j => z _ _ (by omega))
theorem xSt.q {S : St} {T : Nat → Nat × Nat} {G G' : gP} (h : xSt S T G) (hW : S.Wf) (hq : qP G G') : xSt S T G' :=
  h.frame (L := S.now) hW hq.1 (fun k j _ => hq.2 k j) ((h.sg 0 (by omega)).same hq.2) (h.rk.same hq.2) (fun k j hk => by simp [cqZ, wZ, liZ]; omega) (hq.now hW.now h.xn).1
def nZ (k _ : Nat) : Bool := decide (32 ≤ k ∧ k < 58)
theorem xSt.now' {S : St} {T : Nat → Nat × Nat} {G G' : gP} {L : Lt} (h : xSt S T G) (hW : S.Wf) (hO : gOff nZ G G') (hr : rSame G G') (hn : xLt G' 32 L) : xSt (St.of (L) (S.past) (S.kept) (S.tape) (S.sh)) T G' :=
  h.frame hW hO (fun k j _ => hr k j) ((h.sg 0 (by omega)).same hr) (h.rk.same hr) (fun k j hk => by simp [nZ]; omega) hn
/-- a slot is copied -/
def sZ (s k _j : Nat) : Bool := decide (s ≤ k ∧ k ≤ s + 2)
theorem slotTake_ok {G : gP} {s t m : Nat} {w c : Nat → Nat} (h : xSlt G t m w c) (hm : m ≤ 4) (ha : s + 2 < t ∨ t + 2 < s) : Ok (f_X7_takeFrom G s t) (fun G' => gOff (sZ s) G G' ∧ rSame G G' ∧ xSlt G' s m w c) := by
  unfold f_X7_takeFrom
  simp only [gLet_e]
  refine ⟨_, rfl, ((gOff.rf.Sc (fun j _ _ => by simp [sZ])).Sc (fun j _ _ => by simp [sZ])).S1 (by simp [sZ]), ((rSame.rf.Sc).Sc).S1, ?_, fun j hj => ⟨?_, ?_⟩⟩
  · rw [gS_at, gS_Sc_ne (by omega), gS_Sc_ne (by omega)]; exact h.1
  · rw [gS_ne (by omega), gS_Sc_ne (by omega), gS_Sc_in rfl (by omega) (by omega), show 0 + (j - 0) = j by omega]; exact (h.2 j hj).1
  · rw [gS_ne (by omega), gS_Sc_in rfl (by omega) (by omega), gS_Sc_ne (by omega), show 0 + (j - 0) = j by omega]; exact (h.2 j hj).2
def lZ (b k _j : Nat) : Bool := decide (b ≤ k ∧ k < b + 26)
theorem latTake_ok {G : gP} {i j : Nat} {L : Lt} (hi : i < 19) (hj : j < 19) (hne : i ≠ j) (hgi : xSg G (32 + 26 * i)) (hgj : xSg G (32 + 26 * j)) (hL : L.Wf) (h : xLt G (32 + 26 * j) L) : Ok (f_X6_takeFrom G (32 + 26 * i) (32 + 26 * j)) (fun G' => gOff (lZ (32 + 26 * i)) G G' ∧ rSame G G' ∧ xLt G' (32 + 26 * i) L) := by
  have h8 := hL.n8
  unfold f_X6_takeFrom
  obtain ⟨h1, h2, h3, h4, h5⟩ := h
  refine Ok.bind (Q := fun G1 => gOff (fun k _ => decide (32 + 26 * i + 2 ≤ k ∧ k < 32 + 26 * i + 26)) G G1 ∧ rSame G G1 ∧ ∀ p, p < L.n → xSlt G1 (sgO G (32 + 26 * i) p) (L.m p) (L.w p) (L.c p)) ?_ (fun G1 q1 => ?_)
  · refine Ok.up (fun p s => s.2 = nI p ∧ gOff (fun k _ => decide (32 + 26 * i + 2 ≤ k ∧ k < 32 + 26 * i + 26)) G s.1 ∧ rSame G s.1 ∧ ∀ p', p' < p → xSlt s.1 (sgO G (32 + 26 * i) p') (L.m p') (L.w p') (L.c p')) L.n (by omega) ?_ ?_ ⟨rfl, gOff.rf, rSame.rf, fun p' hp => by omega⟩
    · rintro p ⟨G1, x⟩ hp ⟨hx, hO, hr, hs⟩
      simp only at hx hO hr hs
      subst hx
      unfold f_X6_takeFrom_b2
      simp only
      have e1 : gS G1 (32 + 26 * j) 1 = nI L.n := by rw [(hO _ 1 (by simp; omega)).1]; exact h1
      rw [e1, if_neg (nI_ge hp (by omega)), gIn_t (by omega) (by omega), gck_t, nI_clamp (by omega), (hgi.same hr).ref hi (by omega)]
      simp only [obind_some]
      rw [gck_t, (hgj.same hr).ref hj (by omega)]
      simp only [obind_some]
      rw [hr.sg, hr.sg]
      have ri := hgi.rng (j := p) (by omega)
      have rj := hgj.rng (j := p) (by omega)
      have hsrc : xSlt G1 (sgO G (32 + 26 * j) p) (L.m p) (L.w p) (L.c p) := (h5 p hp).off hO (fun k j' a b => by simp; omega)
      refine Ok.bind (slotTake_ok (s := sgO G (32 + 26 * i) p) hsrc (hL.m1 p hp).2 (by omega)) (fun G2 q2 => ?_)
      obtain ⟨hO2, hr2, hs2⟩ := q2
      refine ⟨_, rfl, nI_1 p, hO.tr (hO2.w (fun k j' z => by simp [sZ] at z ⊢; omega)), hr.tr hr2, fun p' hp' => ?_⟩
      simp only
      by_cases e : p' = p
      · subst e; exact hs2
      · refine (hs p' (by omega)).off hO2 (fun k j' a b => ?_)
        have rp := hgi.rng (j := p') (by omega)
        have hd : sgO G (32 + 26 * i) p' ≠ sgO G (32 + 26 * i) p := fun z => e (hgi.2 p' p (by omega) (by omega) z)
        simp [sZ]; omega
    · rintro ⟨G1, x⟩ ⟨hx, hO, hr, hs⟩
      simp only at hx hO hr hs
      subst hx
      unfold f_X6_takeFrom_b2
      simp only
      have e1 : gS G1 (32 + 26 * j) 1 = nI L.n := by rw [(hO _ 1 (by simp; omega)).1]; exact h1
      rw [e1, if_pos (nI_le (Nat.le_refl _) (by omega))]
      exact ⟨_, rfl, hO, hr, hs⟩
  · obtain ⟨hO, hr, hs⟩ := q1
    simp only [gLet_e]
    have n : ∀ (X : gP) (a b : Nat) (v : Int32), gS (gS1 X (32 + 26 * i) a v) (32 + 26 * j) b = gS X (32 + 26 * j) b := fun X a b v => gS_ne (by omega)
    have g : ∀ a, gS G1 (32 + 26 * j) a = gS G (32 + 26 * j) a := fun a => (hO _ a (by simp; omega)).1
    simp only [n, g, h1, h2, h3, h4]
    have hO' : gOff (fun k j' => decide (k = 32 + 26 * i)) G1 (gS1 (gS1 (gS1 (gS1 G1 (32 + 26 * i) 1 (nI L.n)) (32 + 26 * i) 2 (nI L.kind)) (32 + 26 * i) 3 (nI L.slack)) (32 + 26 * i) 4 (nI L.draw)) := (((gOff.rf.S1 (by simp)).S1 (by simp)).S1 (by simp)).S1 (by simp)
    refine ⟨_, rfl, (hO.w (fun k j' z => by simp [lZ] at z ⊢; omega)).tr (hO'.w (fun k j' z => by simp [lZ] at z ⊢; omega)), (((hr.S1).S1).S1).S1, ?_, ?_, ?_, ?_, fun p hp => ?_⟩
    · simp only [gS_S1]; simp (config := { decide := true }) only [true_and, if_false, if_true]
    · simp only [gS_S1]; simp (config := { decide := true }) only [true_and, if_false, if_true]
    · simp only [gS_S1]; simp (config := { decide := true }) only [true_and, if_false, if_true]
    · simp only [gS_S1]; simp (config := { decide := true }) only [true_and, if_false, if_true]
    · rw [((((hr.S1).S1).S1).S1).sg]
      have ri := hgi.rng (j := p) (by omega)
      exact (hs p hp).off hO' (fun k j' a b => by simp; omega)
end
section
/-! the component: note, undo, image, restore -/
theorem gR_Rc (G : gP) (a sp b dp n k j : Nat) : gR (gRc G a sp b dp n) k j = if k = b ∧ dp ≤ j ∧ j < dp + n then gR G a (sp + (j - dp)) else gR G k j := by
  unfold gR gRc va_up va_cpy
  by_cases h : k = b
  · subst h
    simp
  · simp [h]
theorem gS_Rc (G : gP) (a sp b dp n k j : Nat) : gS (gRc G a sp b dp n) k j = gS G k j := rfl
theorem gL_Rc (G : gP) (a sp b dp n k j : Nat) : gL (gRc G a sp b dp n) k j = gL G k j := rfl
theorem xSt.eq {S S' : St} {T : Nat → Nat × Nat} {G : gP} (h : xSt S T G) (e : S = S') : xSt S' T G := e ▸ h
/-- only the list of the past has changed -/
theorem xLt.sm {G G' : gP} {b : Nat} {L : Lt} (h : xLt G b L) (h8 : L.n ≤ 8) (hg : xSg G b) (hS : ∀ k j, k ≠ 0 → gS G' k j = gS G k j) (hR : ∀ j, gR G' (b + 1) j = gR G (b + 1) j) (hb : 0 < b) : xLt G' b L := by
  obtain ⟨h1, h2, h3, h4, h5⟩ := h
  refine ⟨by rw [hS _ _ (by omega)]; exact h1, by rw [hS _ _ (by omega)]; exact h2, by rw [hS _ _ (by omega)]; exact h3, by rw [hS _ _ (by omega)]; exact h4, fun i hi => ?_⟩
  have hr := hg.rng (j := i) (by omega)
  have e : sgO G' b i = sgO G b i := by unfold sgO; rw [hR]
  rw [e]
  have := h5 i hi
  refine ⟨by rw [hS _ _ (by omega)]; exact this.1, fun j hj => ⟨by rw [hS _ _ (by omega)]; exact (this.2 j hj).1, by rw [hS _ _ (by omega)]; exact (this.2 j hj).2⟩⟩
theorem rot_ok {S : St} {T : Nat → Nat × Nat} {G : gP} (hW : S.Wf) (h : xSt S T G) (h8 : S.past.length = 8) : xSt (St.of (S.now) (S.past.tail) (S.kept) (S.tape) (S.sh)) T (gS1 (gR1 (gRc G 11 1 11 0 7) 11 7 (some (paO G 0))) 0 16 (nI 7)) := by
  have r0 := (h.pa.1 0 (by omega)).1
  have hR : ∀ k j, k ≠ 11 → gR (gS1 (gR1 (gRc G 11 1 11 0 7) 11 7 (some (paO G 0))) 0 16 (nI 7)) k j = gR G k j := fun k j hk => by
    rw [gR_S1, gR_R1, if_neg (fun z => hk z.1), gR_Rc, if_neg (fun z => hk z.1)]
  have hP : ∀ j, j < 8 → gR (gS1 (gR1 (gRc G 11 1 11 0 7) 11 7 (some (paO G 0))) 0 16 (nI 7)) 11 j = some (paO G ((j + 1) % 8)) := fun j hj => by
    rw [gR_S1, gR_R1]
    by_cases e : j = 7
    · subst e; rw [if_pos ⟨rfl, rfl⟩]
    · rw [if_neg (fun z => e z.2), gR_Rc, if_pos ⟨rfl, by omega, by omega⟩, show 1 + (j - 0) = j + 1 by omega, (h.pa.1 (j + 1) (by omega)).1, show (j + 1) % 8 = j + 1 by omega]
  have hP11 : ∀ j n, gR (gS1 (gR1 (gRc G 11 1 11 0 7) 11 7 (some (paO G 0))) 0 16 (nI 7)) 11 j = some n → ∃ j', gR G 11 j' = some n := fun j n hn => by
    rw [gR_S1, gR_R1] at hn
    by_cases e : j = 7
    · subst e; rw [if_pos ⟨rfl, rfl⟩] at hn; exact ⟨0, r0.trans hn⟩
    · rw [if_neg (fun z => e z.2), gR_Rc] at hn
      split at hn
      · exact ⟨_, hn⟩
      · exact ⟨_, hn⟩
  have hS : ∀ k j, k ≠ 0 → gS (gS1 (gR1 (gRc G 11 1 11 0 7) 11 7 (some (paO G 0))) 0 16 (nI 7)) k j = gS G k j := fun k j hk => by
    rw [gS_ne (fun z => hk z.1)]; rfl
  have hS0 : ∀ j, j ≠ 16 → gS (gS1 (gR1 (gRc G 11 1 11 0 7) 11 7 (some (paO G 0))) 0 16 (nI 7)) 0 j = gS G 0 j := fun j hj => by
    rw [gS_ne (fun z => hj z.2)]; rfl
  have hL : ∀ k j, gL (gS1 (gR1 (gRc G 11 1 11 0 7) 11 7 (some (paO G 0))) 0 16 (nI 7)) k j = gL G k j := fun k j => rfl
  have h16 : gS (gS1 (gR1 (gRc G 11 1 11 0 7) 11 7 (some (paO G 0))) 0 16 (nI 7)) 0 16 = nI 7 := gS_at
  generalize gS1 (gR1 (gRc G 11 1 11 0 7) 11 7 (some (paO G 0))) 0 16 (nI 7) = G1 at *
  have hpO : ∀ j, j < 8 → paO G1 j = paO G ((j + 1) % 8) := fun j hj => by
    show (gR G1 11 j).getD 0 = _
    rw [hP j hj]; rfl
  have hsg : ∀ i, i < 19 → xSg G1 (32 + 26 * i) := fun i hi => by
    have e : ∀ j, sgO G1 (32 + 26 * i) j = sgO G (32 + 26 * i) j := fun j => by unfold sgO; rw [hR _ _ (by omega)]
    exact ⟨fun j hj => by rw [e, hR _ _ (by omega)]; exact (h.sg i hi).1 j hj, fun a b ha hb => by rw [e, e]; exact (h.sg i hi).2 a b ha hb⟩
  have hlt : ∀ i L, i < 19 → L.n ≤ 8 → xLt G (32 + 26 * i) L → xLt G1 (32 + 26 * i) L := fun i L hi h8 hx => hx.sm h8 (h.sg i hi) hS (fun j => hR _ _ (by omega)) (by omega)
  refine ⟨fun k j n hn => ?_, hsg, ⟨fun j hj => ?_, fun i j hi hj e => ?_⟩, fun j hj => by rw [hR _ _ (by omega)]; exact h.ka j hj, hlt 0 _ (by omega) hW.now.n8 h.now, ?_, fun i L hi => ?_, ?_, by rw [hS0 _ (by decide)]; exact h.tp, fun j v hj => by rw [hS _ _ (by decide)]; exact h.tape j v hj, fun s hs => ?_⟩
  · by_cases e : k = 11
    · subst e
      obtain ⟨j', hj'⟩ := hP11 j n hn
      exact h.rk _ _ _ hj'
    · rw [hR k j e] at hn; exact h.rk _ _ _ hn
  · rw [hpO j hj]
    exact ⟨hP j hj, (h.pa.1 ((j + 1) % 8) (by omega)).2⟩
  · rw [hpO i hi, hpO j hj] at e
    have := h.pa.2 ((i + 1) % 8) ((j + 1) % 8) (by omega) (by omega) e
    omega
  · rw [h16]
    show nI 7 = nI S.past.tail.length
    rw [List.length_tail, h8]
  · have hi' : S.past.tail[i]? = some L := hi
    rw [List.getElem?_tail] at hi'
    have hil : i + 1 < S.past.length := (List.getElem?_eq_some_iff.mp hi').1
    rw [hpO i (by omega), show (i + 1) % 8 = i + 1 by omega]
    have hx := h.past (i + 1) L hi'
    obtain ⟨-, p, hp, e⟩ := h.pa.1 (i + 1) (by omega)
    rw [e] at hx ⊢
    exact hlt _ L (by omega) (hW.past L (List.mem_of_getElem? hi')).n8 hx
  · have hkk := h.kept
    show xKp G1 S.kept
    cases hSk : S.kept with
    | none => rw [hSk] at hkk; show gS G1 0 20 = 0; rw [hS0 _ (by decide)]; exact hkk
    | some q =>
      obtain ⟨Lk, p⟩ := q
      rw [hSk] at hkk
      obtain ⟨k1, k2, k3, k4⟩ := hkk
      obtain ⟨w1, w2, w3⟩ := hW.kept Lk p hSk
      refine ⟨by rw [hS0 _ (by decide)]; exact k1, by rw [hS0 _ (by decide)]; exact k2, hlt 2 Lk (by omega) w1.n8 k3, fun i L' hi => ?_⟩
      have hil : i < p.length := (List.getElem?_eq_some_iff.mp hi).1
      exact hlt (11 + i) L' (by omega) (w2 L' (List.mem_of_getElem? hi)).n8 (k4 i L' hi)
  · have := h.sh s hs
    show xSh T G1 s (S.sh s)
    cases hSs : S.sh s with
    | none => rw [hSs] at this; show gR G1 _ _ = none; rw [hR _ _ (by omega)]; exact this
    | some q =>
      obtain ⟨k, l⟩ := q
      rw [hSs] at this
      refine ⟨by rw [hR _ _ (by omega)]; exact this.1, this.2.1, fun i v hi => ?_⟩
      have h3 := this.2.2 i v hi
      unfold shV at h3 ⊢
      rw [hL, hS _ _ (by omega)]; exact h3
/-- what is now is noted behind the past -/
theorem push_ok {S : St} {T : Nat → Nat × Nat} {G : gP} {q : List Lt} (hW : S.Wf) (hq : q.length ≤ 7) (hqW : ∀ L ∈ q, L.Wf) (h : xSt (St.of (S.now) (q) (S.kept) (S.tape) (S.sh)) T G) : Ok (gck (gIn (gS G 0 16) 8) ((xRef (gR G 11 (gS G 0 16).toNatClampNeg) 6).bind fun k5 => (f_X6_takeFrom G k5 32).bind fun q8 => gLet (gS1 q8 0 16 ((gS q8 0 16) + (1 : Int32))) fun G10 => some G10)) (fun G' => xSt (St.of (S.now) (q ++ [S.now]) (S.kept) (S.tape) (S.sh)) T G' ∧ (∀ j, gR G' 33 j = gR G 33 j) ∧ ∀ k j, 32 ≤ k → k < 58 → gS G' k j = gS G k j) := by
  have hun : gS G 0 16 = nI q.length := h.un
  rw [hun, gIn_t (by omega) (by omega), gck_t, nI_clamp (by omega)]
  obtain ⟨r1, p, hp, r2⟩ := h.pa.1 q.length (by omega)
  rw [r1, r2, xRef_lat (by omega), obind_some]
  have hn : xLt G (32 + 26 * 0) S.now := h.now
  refine Ok.bind (latTake_ok (i := 3 + p) (j := 0) (by omega) (by omega) (by omega) (h.sg _ (by omega)) (h.sg 0 (by omega)) hW.now hn) (fun G2 h2 => ?_)
  obtain ⟨hO2, hr2, hx2⟩ := h2
  have e16 : gS G2 0 16 = nI q.length := by rw [(hO2 0 16 (by simp [lZ])).1]; exact hun
  rw [e16, nI_1]
  simp only [gLet_e]
  have hO : gOff (fun k j => decide ((32 + 26 * (3 + p) ≤ k ∧ k < 32 + 26 * (3 + p) + 26) ∨ (k = 0 ∧ j = 16))) G (gS1 G2 0 16 (nI (q.length + 1))) := (hO2.w (fun k j z => by simp [lZ] at z ⊢; omega)).S1 (by simp)
  have hr : rSame G (gS1 G2 0 16 (nI (q.length + 1))) := hr2.S1
  have hxb : xLt (gS1 G2 0 16 (nI (q.length + 1))) (32 + 26 * (3 + p)) S.now := hx2.off hW.now.n8 ((h.sg _ (by omega)).same hr2) (Z := fun k _ => decide (k = 0)) (gOff.rf.S1 (by simp)) (rSame.rf.S1) (fun k j a b => by simp; omega)
  have h16 : gS (gS1 G2 0 16 (nI (q.length + 1))) 0 16 = nI (q.length + 1) := gS_at
  generalize gS1 G2 0 16 (nI (q.length + 1)) = G3 at *
  have hpO : ∀ j, paO G3 j = paO G j := fun j => by unfold paO; rw [hr]
  have hlt : ∀ i L, i < 19 → i ≠ 3 + p → L.n ≤ 8 → xLt G (32 + 26 * i) L → xLt G3 (32 + 26 * i) L := fun i L hi hne h8 hx => hx.off h8 (h.sg i hi) hO hr (fun k j a b => by simp; omega)
  refine ⟨_, rfl, ⟨h.rk.same hr, fun i hi => (h.sg i hi).same hr, h.pa.same hr, fun j hj => by rw [hr]; exact h.ka j hj, hlt 0 _ (by omega) (by omega) hW.now.n8 h.now, ?_, fun i L hi => ?_, ?_, by rw [(hO 0 11 (by simp)).1]; exact h.tp, fun j v hj => by rw [(hO 9 _ (by simp; omega)).1]; exact h.tape j v hj, fun s hs => (h.sh s hs).off hO (hr _ _) (fun j => by simp; omega)⟩, fun j => hr _ _, fun k j a b => (hO k j (by simp; omega)).1⟩
  · rw [h16]
    show _ = nI (q ++ [S.now]).length
    rw [List.length_append, List.length_singleton]
  · have hi' : (q ++ [S.now])[i]? = some L := hi
    rw [hpO]
    by_cases e : i = q.length
    · subst e
      rw [List.getElem?_append_right (Nat.le_refl _), Nat.sub_self] at hi'
      cases hi'
      rw [r2]; exact hxb
    · have hil : i < q.length := by have := (List.getElem?_eq_some_iff.mp hi').1; simp at this; omega
      rw [List.getElem?_append_left hil] at hi'
      have hx : xLt G (paO G i) L := h.past i L hi'
      obtain ⟨-, p', hp', e'⟩ := h.pa.1 i (by omega)
      have hne : paO G i ≠ paO G q.length := fun z => e (h.pa.2 i q.length (by omega) (by omega) z)
      rw [e'] at hx hne ⊢
      rw [r2] at hne
      exact hlt _ L (by omega) (by omega) (hqW L (List.mem_of_getElem? hi')).n8 hx
  · have hkk : xKp G S.kept := h.kept
    show xKp G3 S.kept
    cases hSk : S.kept with
    | none => rw [hSk] at hkk; show gS G3 0 20 = 0; rw [(hO 0 20 (by simp)).1]; exact hkk
    | some z =>
      obtain ⟨Lk, pk⟩ := z
      rw [hSk] at hkk
      obtain ⟨k1, k2, k3, k4⟩ := hkk
      obtain ⟨w1, w2, w3⟩ := hW.kept Lk pk hSk
      refine ⟨by rw [(hO 0 20 (by simp)).1]; exact k1, by rw [(hO 0 19 (by simp)).1]; exact k2, hlt 2 Lk (by omega) (by omega) w1.n8 k3, fun i L' hi => ?_⟩
      have hil : i < pk.length := (List.getElem?_eq_some_iff.mp hi).1
      exact hlt (11 + i) L' (by omega) (by omega) (w2 L' (List.mem_of_getElem? hi)).n8 (k4 i L' hi)
theorem xnote_ok {S : St} {T : Nat → Nat × Nat} {G : gP} (hW : S.Wf) (h : xSt S T G) : Ok (f_X0_note G) (fun G' => xSt (St.of (S.now) (pushP S.past S.now) (S.kept) (S.tape) (S.sh)) T G' ∧ (∀ j, gR G' 33 j = gR G 33 j) ∧ ∀ k j, 32 ≤ k → k < 58 → gS G' k j = gS G k j) := by
  unfold f_X0_note
  have hp8 := hW.p8
  by_cases h8 : S.past.length = 8
  · rw [h.un, h8, if_pos (show nI 8 = 8 from rfl)]
    obtain ⟨r1, p, hp, r2⟩ := h.pa.1 0 (by omega)
    have hel : gEl G 11 1 7 6 = true := by
      unfold gEl
      rw [List.all_eq_true]
      intro i hi
      rw [List.mem_range] at hi
      obtain ⟨s1, p', hp', s2⟩ := h.pa.1 (1 + i) (by omega)
      rw [s1]
      show decide _ = true
      apply decide_eq_true
      rw [s2]
      refine ⟨by omega, ?_⟩
      rw [show 32 + 26 * (3 + p') = 32 + 26 * (3 + p') + 0 from rfl, xT_lat (by omega) 0 (by omega)]; rfl
    have e1 : xRef (gR G 11 0) 6 = some (paO G 0) := by rw [r1, r2, xRef_lat (by omega)]
    rw [e1, hel]
    simp only [obind_some, gck_t, gLet_e]
    have e16 : gS (gR1 (gRc G 11 1 11 0 7) 11 7 (some (paO G 0))) 0 16 - 1 = nI 7 := by
      show gS G 0 16 - 1 = nI 7
      rw [h.un, h8]; rfl
    rw [e16]
    have hrot := rot_ok hW h h8
    have hpu := push_ok (S := S) (q := S.past.tail) hW (by rw [List.length_tail]; omega) (fun L hl => hW.past L (List.mem_of_mem_tail hl)) hrot
    refine hpu.imp ?_
    rintro G' ⟨a, b, c⟩
    refine ⟨?_, fun j => ?_, fun k j x y => ?_⟩
    · have e : S.past.tail ++ [S.now] = pushP S.past S.now := by unfold pushP; rw [if_pos h8]
      rw [← e]; exact a
    · rw [b j, gR_S1, gR_R1, if_neg (by omega), gR_Rc, if_neg (by omega)]
    · rw [c k j x y, gS_ne (by omega)]; rfl
  · rw [h.un, if_neg (show ¬ nI S.past.length = 8 from fun z => h8 ((nI_eq (b := 8) (by omega) (by decide)).mp z)), obind_some]
    have hpu := push_ok (S := S) (q := S.past) hW (by omega) hW.past h
    refine hpu.imp ?_
    rintro G' ⟨a, b, c⟩
    refine ⟨?_, b, c⟩
    have e : S.past ++ [S.now] = pushP S.past S.now := by unfold pushP; rw [if_neg h8]
    rw [← e]; exact a
/-- what an act leaves -/
def xA (T : Nat → Nat × Nat) (X : St × Int32) (q : gP × Int32) : Prop := xSt X.1 T q.1 ∧ q.2 = X.2
theorem xundo_ok {S : St} {T : Nat → Nat × Nat} {G : gP} (hW : S.Wf) (h : xSt S T G) : Ok (f_X0_undo G) (xA T (sUndo S)) := by
  unfold f_X0_undo sUndo
  have h8 := hW.p8
  cases hp : S.past.getLast? with
  | none =>
    have : S.past = [] := List.getLast?_eq_none_iff.mp hp
    rw [h.un, this, if_pos (show nI ([] : List Lt).length = 0 from rfl)]
    exact ⟨_, rfl, h, rfl⟩
  | some L =>
    have hlen : 0 < S.past.length := List.length_pos_iff.mpr (fun z => by rw [z] at hp; cases hp)
    rw [List.getLast?_eq_getElem?] at hp
    have hLW := hW.past L (List.mem_of_getElem? hp)
    rw [h.un, if_neg (nI_ne0 hlen (by omega)), show nI S.past.length - 1 = nI (S.past.length - 1) from pk_sub (b := 1) hlen]
    simp only [gLet_e, gS_at]
    rw [gIn_t (by omega) (by omega), gck_t, nI_clamp (by omega), gR_S1]
    obtain ⟨r1, p, hp', r2⟩ := h.pa.1 (S.past.length - 1) (by omega)
    rw [r1, r2, xRef_lat (by omega), obind_some]
    have hO0 : gOff (fun k j => decide (k = 0 ∧ j = 16)) G (gS1 G 0 16 (nI (S.past.length - 1))) := gOff.rf.S1 (by simp)
    have hr0 : rSame G (gS1 G 0 16 (nI (S.past.length - 1))) := rSame.rf.S1
    have h16 : gS (gS1 G 0 16 (nI (S.past.length - 1))) 0 16 = nI (S.past.length - 1) := gS_at
    generalize gS1 G 0 16 (nI (S.past.length - 1)) = G1 at *
    have hx : xLt G1 (32 + 26 * (3 + p)) L := by
      have := h.past _ L hp
      rw [r2] at this
      exact this.off hLW.n8 (h.sg _ (by omega)) hO0 hr0 (fun k j a b => by simp; omega)
    refine Ok.bind (latTake_ok (i := 0) (j := 3 + p) (by omega) (by omega) (by omega) ((h.sg 0 (by omega)).same hr0) ((h.sg _ (by omega)).same hr0) hLW hx) (fun G2 h2 => ?_)
    obtain ⟨hO2, hr2, hx2⟩ := h2
    have hO : gOff (fun k j => decide ((32 ≤ k ∧ k < 58) ∨ (k = 0 ∧ j = 16))) G G2 := (hO0.w (fun k j z => by simp at z ⊢; omega)).tr (hO2.w (fun k j z => by simp [lZ] at z ⊢; omega))
    have hr : rSame G G2 := hr0.tr hr2
    have e16 : gS G2 0 16 = nI (S.past.length - 1) := by rw [(hO2 0 16 (by simp [lZ])).1]; exact h16
    have hpO : ∀ j, paO G2 j = paO G j := fun j => by unfold paO; rw [hr]
    have hlt : ∀ i L, 0 < i → i < 19 → L.n ≤ 8 → xLt G (32 + 26 * i) L → xLt G2 (32 + 26 * i) L := fun i L h0 hi h8 hx => hx.off h8 (h.sg i hi) hO hr (fun k j a b => by simp; omega)
    refine ⟨_, rfl, ⟨h.rk.same hr, fun i hi => (h.sg i hi).same hr, h.pa.same hr, fun j hj => by rw [hr]; exact h.ka j hj, hx2, ?_, fun i L' hi0 => ?_, ?_, by rw [(hO 0 11 (by simp)).1]; exact h.tp, fun j v hj => by rw [(hO 9 _ (by simp)).1]; exact h.tape j v hj, fun s hs => (h.sh s hs).off hO (hr _ _) (fun j => by simp; omega)⟩, e16⟩
    · rw [e16]
      show _ = nI S.past.dropLast.length
      rw [List.length_dropLast]
    · have hi : S.past.dropLast[i]? = some L' := hi0
      have hi2 : S.past[i]? = some L' := by
        have : i < S.past.dropLast.length := (List.getElem?_eq_some_iff.mp hi).1
        rw [List.length_dropLast] at this
        rw [List.dropLast_eq_take, List.getElem?_take_of_lt (by omega)] at hi
        exact hi
      have hil : i < S.past.length := (List.getElem?_eq_some_iff.mp hi2).1
      rw [hpO]
      have hx := h.past i L' hi2
      obtain ⟨-, p', hp', e'⟩ := h.pa.1 i (by omega)
      rw [e'] at hx ⊢
      exact hlt _ L' (by omega) (by omega) (hW.past L' (List.mem_of_getElem? hi2)).n8 hx
    · have hkk : xKp G S.kept := h.kept
      show xKp G2 S.kept
      cases hSk : S.kept with
      | none => rw [hSk] at hkk; show gS G2 0 20 = 0; rw [(hO 0 20 (by simp)).1]; exact hkk
      | some z =>
        obtain ⟨Lk, pk⟩ := z
        rw [hSk] at hkk
        obtain ⟨k1, k2, k3, k4⟩ := hkk
        obtain ⟨w1, w2, w3⟩ := hW.kept Lk pk hSk
        refine ⟨by rw [(hO 0 20 (by simp)).1]; exact k1, by rw [(hO 0 19 (by simp)).1]; exact k2, hlt 2 Lk (by omega) (by omega) w1.n8 k3, fun i L' hi => ?_⟩
        have hil : i < pk.length := (List.getElem?_eq_some_iff.mp hi).1
        exact hlt (11 + i) L' (by omega) (by omega) (w2 L' (List.mem_of_getElem? hi)).n8 (k4 i L' hi)
end
section
/-! the component: hear, also, settle, check, slack, seed, lose -/
theorem add_ok {G : gP} {s m : Nat} {w0 c0 : Nat → Nat} (h : xSlt G s m w0 c0) (hm : m < 4) (w c : Nat) : Ok (f_X7_add G s (nI w) (nI c)) (fun G' => gOff (sZ s) G G' ∧ rSame G G' ∧ xSlt G' s (m + 1) (setp w0 m w) (setp c0 m c)) := by
  unfold f_X7_add
  simp only [gLet_e]
  rw [h.1, gIn_t (by omega) hm, gck_t, nI_clamp (by omega), gS_ne (show ¬ (s = s + 1 ∧ 2 = m) by omega), h.1, gIn_t (by omega) hm, gck_t, nI_clamp (by omega), gS_ne (show ¬ (s = s + 2 ∧ 2 = m) by omega), gS_ne (show ¬ (s = s + 1 ∧ 2 = m) by omega), h.1, nI_1]
  refine ⟨_, rfl, ((gOff.rf.S1 (by simp [sZ])).S1 (by simp [sZ])).S1 (by simp [sZ]), ((rSame.rf.S1).S1).S1, gS_at, fun j hj => ?_⟩
  unfold setp
  by_cases e : j = m
  · subst e
    simp only [if_true]
    refine ⟨?_, ?_⟩
    · rw [gS_ne (by omega), gS_ne (by omega), gS_at]
    · rw [gS_ne (by omega), gS_at]
  · simp only [e, if_false]
    have := h.2 j (by omega)
    refine ⟨?_, ?_⟩
    · rw [gS_ne (by omega), gS_ne (by omega), gS_ne (by omega)]; exact this.1
    · rw [gS_ne (by omega), gS_ne (by omega), gS_ne (by omega)]; exact this.2
theorem find_ok {G : gP} {s m : Nat} {w0 c0 : Nat → Nat} (h : xSlt G s m w0 c0) (hm : m ≤ 4) (hw0 : ∀ j, j < m → w0 j < 32) {w : Nat} (hw : w < 2 ^ 31) : Ok (f_X7_find G s (nI w)) (fun r => r = rI (fnd w0 w m)) := by
  unfold f_X7_find
  refine Ok.bind (Q := fun z => z = match fnd w0 w m with | none => Sum.inl () | some i => Sum.inr (nI i)) ?_ (fun z hz => ?_)
  · refine Ok.loop (fun n s => ∃ k, n + k = m ∧ s = nI k ∧ fnd w0 w k = none) ?_ gFu m _ (by unfold gFu; omega) ⟨0, by omega, rfl, rfl⟩
    rintro n x ⟨k, hk, rfl, hf⟩
    unfold f_X7_find_b2
    cases n with
    | zero =>
      have : k = m := by omega
      subst this
      rw [h.1, if_pos (nI_le (Nat.le_refl _) (by omega))]
      exact ⟨_, rfl, by simp only; rw [hf]⟩
    | succ n =>
      have hwk := hw0 k (by omega)
      rw [h.1, if_neg (nI_ge (by omega) (by omega)), gIn_t (by omega) (by omega), gck_t, nI_clamp (by omega), (h.2 k (by omega)).1]
      by_cases e : w0 k = w
      · rw [if_pos (nI_inj e)]
        refine ⟨_, rfl, ?_⟩
        have hs : fnd w0 w (k + 1) = some k := by unfold fnd; rw [hf]; simp only; rw [if_pos e]
        have hmono : ∀ d, fnd w0 w (k + 1 + d) = some k := by
          intro d
          induction d with
          | zero => exact hs
          | succ d ih => show (match fnd w0 w (k + 1 + d) with | some i => some i | none => _) = _; rw [ih]
        have := hmono n
        rw [show k + 1 + n = m by omega] at this
        simp only
        rw [this]
      · rw [if_neg (fun z => e ((nI_eq (by omega) hw).mp z)), nI_1]
        refine ⟨_, rfl, n, by omega, k + 1, by omega, rfl, ?_⟩
        unfold fnd; rw [hf]; simp only; rw [if_neg e]
  · subst hz
    cases fnd w0 w m with
    | none => exact ⟨_, rfl, rfl⟩
    | some i => exact ⟨_, rfl, rfl⟩
/-- a lattice with one slot changed -/
theorem xLt.put {G G' : gP} {L : Lt} (hL : L.Wf) (h : xLt G 32 L) (hg : xSg G 32) {s m : Nat} (hs : s < L.n) {w c : Nat → Nat} (hO : gOff (sZ (sgO G 32 s)) G G') (hr : rSame G G') (hx : xSlt G' (sgO G 32 s) m w c) : xLt G' 32 (L.put s m w c) := by
  have h8 := hL.n8
  have rs := hg.rng (j := s) (by omega)
  obtain ⟨h1, h2, h3, h4, h5⟩ := h
  refine ⟨?_, ?_, ?_, ?_, fun i hi => ?_⟩
  · rw [(hO 32 1 (by simp [sZ]; omega)).1]; exact h1
  · rw [(hO 32 2 (by simp [sZ]; omega)).1]; exact h2
  · rw [(hO 32 3 (by simp [sZ]; omega)).1]; exact h3
  · rw [(hO 32 4 (by simp [sZ]; omega)).1]; exact h4
  · rw [hr.sg]
    unfold Lt.put
    simp only [Lt.mk_n, Lt.mk_kind, Lt.mk_slack, Lt.mk_draw, Lt.mk_m, Lt.mk_w, Lt.mk_c, St.mk_now, St.mk_past, St.mk_kept, St.mk_tape, St.mk_sh]
    have hi' : i < L.n := hi
    by_cases e : i = s
    · subst e; simp only [if_true]; exact hx
    · simp only [e, if_false]
      have ri := hg.rng (j := i) (by omega)
      have hd : sgO G 32 i ≠ sgO G 32 s := fun z => e (hg.2 i s (by omega) (by omega) z)
      exact (h5 i hi').off hO (fun k j a b => by simp [sZ]; omega)
theorem sZ_n {G : gP} {s k j : Nat} (hg : xSg G 32) (hs : s < 8) (h : nZ k j = false) : sZ (sgO G 32 s) k j = false := by
  have := hg.rng (j := s) hs
  simp [nZ, sZ] at h ⊢; omega
theorem xisWord_rg (a : Int32) : f_X0_isWord a = if (rg a 0 32).isSome then 1 else 0 := isIn_rg a rfl rfl
theorem xisCost_rg (a : Int32) : f_X0_isCost a = if (rg a 0 10).isSome then 1 else 0 := isIn_rg a rfl rfl
theorem xSt.up {S : St} {T : Nat → Nat × Nat} {G G' : gP} {L : Lt} (hW : S.Wf) (h : xSt (St.of (S.now) (pushP S.past S.now) (S.kept) (S.tape) (S.sh)) T G) (hO : gOff nZ G G') (hr : rSame G G') (hn : xLt G' 32 L) : xSt (S.up L) T G' :=
  h.now' (hW.up hW.now) hO hr hn
theorem xhear_ok {S : St} {T : Nat → Nat × Nat} {G : gP} (hW : S.Wf) (h : xSt S T G) (a c : Int32) : Ok (f_X0_hear G a c) (xA T (sHear S a c)) := by
  unfold f_X0_hear sHear
  rw [xisWord_rg, xisCost_rg]
  cases ha : rg a 0 32 with
  | none => exact ⟨_, rfl, h, rfl⟩
  | some w =>
    obtain ⟨-, hw, rfl⟩ := rg_some ha
    simp only [Option.isSome_some, if_true]
    rw [if_neg (by decide)]
    cases hc : rg c 0 10 with
    | none => exact ⟨_, rfl, h, rfl⟩
    | some cn =>
      obtain ⟨-, hcn, rfl⟩ := rg_some hc
      simp only [Option.isSome_some, if_true]
      have hL := hW.now
      have h8 := hL.n8
      rw [if_neg (by decide), h.now.1]
      by_cases hn : S.now.n = 8
      · rw [if_pos hn, hn, if_pos (show nI 8 = 8 from rfl)]; exact ⟨_, rfl, h, rfl⟩
      · rw [if_neg hn, if_neg (show ¬ nI S.now.n = 8 from fun z => hn ((nI_eq (b := 8) (by omega) (by decide)).mp z))]
        refine Ok.bind (xnote_ok hW h) (fun G1 h1 => ?_)
        obtain ⟨hx1, -, -⟩ := h1
        have hN1 : xNow G1 S.now := hx1.xn
        unfold f_X6_come
        rw [hN1.1.1, gIn_t (by omega) (by omega), gck_t, nI_clamp (by omega), hN1.2.ref0 (by omega)]
        simp only [obind_some, gLet_e]
        have rs := hN1.2.rng (j := S.now.n) (by omega)
        rw [gS_ne (by omega), hN1.1.1, nI_1]
        have hOa : gOff (fun k j => decide (k = sgO G1 32 S.now.n ∨ k = 32)) G1 (gS1 (gS1 G1 (sgO G1 32 S.now.n) 2 0) 32 1 (nI (S.now.n + 1))) := (gOff.rf.S1 (by simp)).S1 (by simp)
        have hra : rSame G1 (gS1 (gS1 G1 (sgO G1 32 S.now.n) 2 0) 32 1 (nI (S.now.n + 1))) := (rSame.rf.S1).S1
        have hsa : xSlt (gS1 (gS1 G1 (sgO G1 32 S.now.n) 2 0) 32 1 (nI (S.now.n + 1))) (sgO G1 32 S.now.n) 0 (fun _ => 0) (fun _ => 0) := ⟨by rw [gS_ne (by omega), gS_at]; rfl, fun j hj => by omega⟩
        have g1 : gS (gS1 (gS1 G1 (sgO G1 32 S.now.n) 2 0) 32 1 (nI (S.now.n + 1))) 32 1 = nI (S.now.n + 1) := gS_at
        have g2 : ∀ j, j ≠ 1 → gS (gS1 (gS1 G1 (sgO G1 32 S.now.n) 2 0) 32 1 (nI (S.now.n + 1))) 32 j = gS G1 32 j := fun j hj => by rw [gS_ne (by omega), gS_ne (by omega)]
        generalize gS1 (gS1 G1 (sgO G1 32 S.now.n) 2 0) 32 1 (nI (S.now.n + 1)) = G2 at *
        refine Ok.bind (add_ok hsa (by omega) w cn) (fun G3 h3 => ?_)
        obtain ⟨hO3, hr3, hs3⟩ := h3
        have hr : rSame G1 G3 := hra.tr hr3
        have e32 : ∀ j, gS G3 32 j = gS G2 32 j := fun j => (hO3 32 j (by simp [sZ]; omega)).1
        refine ⟨_, rfl, hx1.up hW ((hOa.w (fun k j z => by simp [nZ] at z ⊢; omega)).tr (hO3.w (fun k j z => sZ_n hN1.2 (by omega) z))) hr ⟨?_, ?_, ?_, ?_, fun i hi => ?_⟩, ?_⟩
        · rw [e32]; exact g1
        · rw [e32, g2 2 (by decide)]; exact hN1.1.2.1
        · rw [e32, g2 3 (by decide)]; exact hN1.1.2.2.1
        · rw [e32, g2 4 (by decide)]; exact hN1.1.2.2.2.1
        · rw [hr.sg]
          unfold Lt.more Lt.put
          simp only [Lt.mk_n, Lt.mk_kind, Lt.mk_slack, Lt.mk_draw, Lt.mk_m, Lt.mk_w, Lt.mk_c, St.mk_now, St.mk_past, St.mk_kept, St.mk_tape, St.mk_sh]
          have hi' : i < S.now.n + 1 := hi
          by_cases e : i = S.now.n
          · subst e
            simp only [if_true]
            refine ⟨hs3.1, fun j hj => ?_⟩
            have : j = 0 := by omega
            subst this
            have := hs3.2 0 (by omega)
            unfold setp at this
            simp only [if_true] at this
            exact this
          · simp only [e, if_false]
            have ri := hN1.2.rng (j := i) (by omega)
            have hd : sgO G1 32 i ≠ sgO G1 32 S.now.n := fun z => e (hN1.2.2 i S.now.n (by omega) (by omega) z)
            exact ((hN1.1.2.2.2.2 i (by omega)).off hOa (fun k j a b => by simp; omega)).off hO3 (fun k j a b => by simp [sZ]; omega)
        · simp only
          rw [e32]; exact g1
theorem xalso_ok {S : St} {T : Nat → Nat × Nat} {G : gP} (hW : S.Wf) (h : xSt S T G) (a w c : Int32) : Ok (f_X0_also G a w c) (xA T (sAlso S a w c)) := by
  unfold f_X0_also sAlso
  have hL := hW.now
  have h8 := hL.n8
  have hN := h.xn
  rw [xisSlot_rg h8 hN.1.1, xisWord_rg, xisCost_rg]
  cases ha : rg a 0 S.now.n with
  | none => exact ⟨_, rfl, h, rfl⟩
  | some s =>
    obtain ⟨-, hs, rfl⟩ := rg_some ha
    simp only [Option.isSome_some, if_true]
    rw [if_neg (by decide)]
    cases hw : rg w 0 32 with
    | none => exact ⟨_, rfl, h, rfl⟩
    | some wn =>
      obtain ⟨-, hwn, rfl⟩ := rg_some hw
      simp only [Option.isSome_some, if_true]
      rw [if_neg (by decide)]
      cases hc : rg c 0 10 with
      | none => exact ⟨_, rfl, h, rfl⟩
      | some cn =>
        obtain ⟨-, hcn, rfl⟩ := rg_some hc
        simp only [Option.isSome_some, if_true]
        rw [if_neg (by decide), gIn_t (by omega) (by omega), gck_t, nI_clamp (by omega), hN.2.ref0 (by omega)]
        simp only [obind_some]
        have hsl := hN.1.2.2.2.2 s hs
        have hm := hL.m1 s hs
        refine Ok.bind (find_ok hsl hm.2 (fun j hj => hL.w32 s j hs hj) (show wn < 2 ^ 31 by omega)) (fun r hr => ?_)
        subst hr
        cases hf : fnd (S.now.w s) wn (S.now.m s) with
        | some i =>
          have := fnd_some _ _ hf
          rw [if_neg (show ¬ rI (some i) < 0 from nI_pos (by omega))]
          exact ⟨_, rfl, h, rfl⟩
        | none =>
          rw [if_pos (show rI none < 0 by decide), hsl.1]
          by_cases hn : S.now.m s = 4
          · rw [if_pos hn, hn, if_pos (show nI 4 = 4 from rfl)]; exact ⟨_, rfl, h, rfl⟩
          · rw [if_neg hn, if_neg (show ¬ nI (S.now.m s) = 4 from fun z => hn ((nI_eq (b := 4) (by omega) (by decide)).mp z))]
            refine Ok.bind (xnote_ok hW h) (fun G1 h1 => ?_)
            obtain ⟨hx1, hg1, -⟩ := h1
            have hN1 : xNow G1 S.now := hx1.xn
            have es : sgO G 32 s = sgO G1 32 s := by unfold sgO; rw [hg1]
            rw [es]
            refine Ok.bind (add_ok (hN1.1.2.2.2.2 s hs) (by omega) wn cn) (fun G2 h2 => ?_)
            exact ⟨_, rfl, hx1.up hW (h2.1.w (fun k j z => sZ_n hN1.2 (by omega) z)) h2.2.1 (xLt.put hL hN1.1 hN1.2 hs h2.1 h2.2.1 h2.2.2), h2.2.2.1⟩
theorem keep_ok {G : gP} {s m : Nat} {w0 c0 : Nat → Nat} (h : xSlt G s m w0 c0) (hm : m ≤ 4) {k : Nat} (hk : k < m) : Ok (f_X7_keepAlone G s (nI k)) (fun G' => gOff (sZ s) G G' ∧ rSame G G' ∧ xSlt G' s 1 (fun _ => w0 k) (fun _ => c0 k)) := by
  unfold f_X7_keepAlone
  simp only [gLet_e]
  rw [gIn_t (by omega) (by omega), gck_t, gck_t, nI_clamp (by omega), gS_ne (show ¬ (s + 2 = s + 1 ∧ k = 0) by omega), (h.2 k hk).1, (h.2 k hk).2]
  refine ⟨_, rfl, ((gOff.rf.S1 (by simp [sZ])).S1 (by simp [sZ])).S1 (by simp [sZ]), ((rSame.rf.S1).S1).S1, gS_at, fun j hj => ?_⟩
  have : j = 0 := by omega
  subst this
  refine ⟨?_, ?_⟩
  · rw [gS_ne (by omega), gS_ne (by omega), gS_at]
  · rw [gS_ne (by omega), gS_at]
theorem xsettle_ok {S : St} {T : Nat → Nat × Nat} {G : gP} (hW : S.Wf) (h : xSt S T G) (a w : Int32) : Ok (f_X0_settle G a w) (xA T (sSettle S a w)) := by
  unfold f_X0_settle sSettle
  have hL := hW.now
  have h8 := hL.n8
  have hN := h.xn
  rw [xisSlot_rg h8 hN.1.1, xisWord_rg]
  cases ha : rg a 0 S.now.n with
  | none => exact ⟨_, rfl, h, rfl⟩
  | some s =>
    obtain ⟨-, hs, rfl⟩ := rg_some ha
    simp only [Option.isSome_some, if_true]
    rw [if_neg (by decide)]
    cases hw : rg w 0 32 with
    | none => exact ⟨_, rfl, h, rfl⟩
    | some wn =>
      obtain ⟨-, hwn, rfl⟩ := rg_some hw
      simp only [Option.isSome_some, if_true]
      rw [if_neg (by decide), gIn_t (by omega) (by omega), gck_t, nI_clamp (by omega), hN.2.ref0 (by omega)]
      simp only [obind_some]
      have hsl := hN.1.2.2.2.2 s hs
      have hm := hL.m1 s hs
      refine Ok.bind (find_ok hsl hm.2 (fun j hj => hL.w32 s j hs hj) (show wn < 2 ^ 31 by omega)) (fun r hr => ?_)
      subst hr
      cases hf : fnd (S.now.w s) wn (S.now.m s) with
      | none =>
        rw [if_pos (show rI none < 0 by decide)]
        exact ⟨_, rfl, h, rfl⟩
      | some i =>
        have hi := fnd_some _ _ hf
        rw [if_neg (show ¬ rI (some i) < 0 from nI_pos (by omega)), hsl.1]
        simp only
        by_cases hn : S.now.m s = 1
        · rw [if_pos hn, hn, if_pos (show nI 1 = 1 from rfl)]; exact ⟨_, rfl, h, rfl⟩
        · rw [if_neg hn, if_neg (show ¬ nI (S.now.m s) = 1 from fun z => hn ((nI_eq (b := 1) (by omega) (by decide)).mp z))]
          refine Ok.bind (xnote_ok hW h) (fun G1 h1 => ?_)
          obtain ⟨hx1, hg1, -⟩ := h1
          have hN1 : xNow G1 S.now := hx1.xn
          have es : sgO G 32 s = sgO G1 32 s := by unfold sgO; rw [hg1]
          have hsl1 := hN1.1.2.2.2.2 s hs
          rw [es]
          simp only [gLet_e]
          rw [hsl1.1, show nI (S.now.m s) - 1 = nI (S.now.m s - 1) from pk_sub (b := 1) hm.1]
          refine Ok.bind (keep_ok hsl1 hm.2 hi.1) (fun G2 h2 => ?_)
          exact ⟨_, rfl, hx1.up hW (h2.1.w (fun k j z => sZ_n hN1.2 (by omega) z)) h2.2.1 (xLt.put hL hN1.1 hN1.2 hs h2.1 h2.2.1 h2.2.2), rfl⟩
/-- a lattice with a field changed -/
theorem xLt.fld {G : gP} {L L' : Lt} (hL : L.Wf) (h : xLt G 32 L) (hg : xSg G 32) {j : Nat} {v : Int32} (hn : L'.n = L.n) (hm : L'.m = L.m) (hw : L'.w = L.w) (hc : L'.c = L.c) (h1 : gS (gS1 G 32 j v) 32 1 = nI L'.n) (h2 : gS (gS1 G 32 j v) 32 2 = nI L'.kind) (h3 : gS (gS1 G 32 j v) 32 3 = nI L'.slack) (h4 : gS (gS1 G 32 j v) 32 4 = nI L'.draw) : xLt (gS1 G 32 j v) 32 L' := by
  have h8 := hL.n8
  refine ⟨h1, h2, h3, h4, fun i hi => ?_⟩
  rw [hn] at hi
  have ri := hg.rng (j := i) (by omega)
  rw [hm, hw, hc]
  exact (h.2.2.2.2 i hi).off (Z := fun k _ => decide (k = 32)) (gOff.rf.S1 (by simp)) (fun k j a b => by simp; omega)
theorem xcheck_ok {S : St} {T : Nat → Nat × Nat} {G : gP} (hW : S.Wf) (h : xSt S T G) (a : Int32) : Ok (f_X0_check G a) (xA T (sCheck S a)) := by
  unfold f_X0_check sCheck
  have hL := hW.now
  rw [isIn_rg a (lo := 0) (hi := 5) rfl rfl]
  cases ha : rg a 0 5 with
  | none => exact ⟨_, rfl, h, rfl⟩
  | some k =>
    obtain ⟨-, hk, rfl⟩ := rg_some ha
    simp only [Option.isSome_some, if_true]
    rw [if_neg (by decide)]
    have h5 := hL.k5
    have e1 : gS G 32 2 = nI S.now.kind := h.now.2.1
    have act : ∀ kd : Nat, kd = S.now.kind → Ok (if nI kd = nI k then some (G, (-2 : Int32)) else (f_X0_note G).bind fun q6 => gLet (gS1 q6 32 2 (nI k)) fun G8 => some (G8, nI kd)) (xA T (if S.now.kind = k then (S, -2) else (S.up (Lt.of (S.now.n) (k) (S.now.slack) (S.now.draw) (S.now.m) (S.now.w) (S.now.c)), nI S.now.kind))) := by
      rintro kd rfl
      by_cases hn : S.now.kind = k
      · rw [if_pos (nI_inj hn), if_pos hn]; exact ⟨_, rfl, h, rfl⟩
      · rw [if_neg (fun z => hn ((nI_eq (by omega) (by omega)).mp z)), if_neg hn]
        refine Ok.bind (xnote_ok hW h) (fun G1 h1 => ?_)
        have hN1 : xNow G1 S.now := h1.1.xn
        refine ⟨_, rfl, h1.1.up hW (gOff.rf.S1 (by simp [nZ])) (rSame.rf.S1) (xLt.fld hL hN1.1 hN1.2 rfl rfl rfl rfl ?_ gS_at ?_ ?_), rfl⟩
        · rw [gS_ne (by decide)]; exact hN1.1.1
        · rw [gS_ne (by decide)]; exact hN1.1.2.2.1
        · rw [gS_ne (by decide)]; exact hN1.1.2.2.2.1
    rw [e1, gIn_t (by omega) h5, gck_t]
    generalize hkd : S.now.kind = kd at *
    have hc : kd = 0 ∨ kd = 1 ∨ kd = 2 ∨ kd = 3 ∨ kd = 4 := by omega
    rcases hc with rfl | rfl | rfl | rfl | rfl
    · rw [if_pos (show nI 0 = 0 from rfl)]; exact act 0 rfl
    · rw [if_neg (by decide), if_pos (show nI 1 = 1 from rfl)]; exact act 1 rfl
    · rw [if_neg (by decide), if_neg (by decide), if_pos (show nI 2 = 2 from rfl)]; exact act 2 rfl
    · rw [if_neg (by decide), if_neg (by decide), if_neg (by decide), if_pos (show nI 3 = 3 from rfl)]; exact act 3 rfl
    · rw [if_neg (by decide), if_neg (by decide), if_neg (by decide), if_neg (by decide), if_pos (show nI 4 = 4 from rfl)]; exact act 4 rfl
theorem xslack_ok {S : St} {T : Nat → Nat × Nat} {G : gP} (hW : S.Wf) (h : xSt S T G) (a : Int32) : Ok (f_X0_slack G a) (xA T (sSlack S a)) := by
  unfold f_X0_slack sSlack
  have hL := hW.now
  rw [isIn_rg a (lo := 0) (hi := 21) rfl rfl]
  cases ha : rg a 0 21 with
  | none => exact ⟨_, rfl, h, rfl⟩
  | some k =>
    obtain ⟨-, hk, rfl⟩ := rg_some ha
    simp only [Option.isSome_some, if_true]
    rw [if_neg (by decide)]
    have h5 := hL.s20
    have e1 : gS G 32 3 = nI S.now.slack := h.now.2.2.1
    simp only [gLet_e]
    rw [e1]
    by_cases hn : S.now.slack = k
    · rw [if_pos (nI_inj hn), if_pos hn]; exact ⟨_, rfl, h, rfl⟩
    · rw [if_neg (fun z => hn ((nI_eq (by omega) (by omega)).mp z)), if_neg hn]
      refine Ok.bind (xnote_ok hW h) (fun G1 h1 => ?_)
      have hN1 : xNow G1 S.now := h1.1.xn
      refine ⟨_, rfl, h1.1.up hW (gOff.rf.S1 (by simp [nZ])) (rSame.rf.S1) (xLt.fld hL hN1.1 hN1.2 rfl rfl rfl rfl ?_ ?_ gS_at ?_), rfl⟩
      · rw [gS_ne (by decide)]; exact hN1.1.1
      · rw [gS_ne (by decide)]; exact hN1.1.2.1
      · rw [gS_ne (by decide)]; exact hN1.1.2.2.2.1
theorem xseed_ok {S : St} {T : Nat → Nat × Nat} {G : gP} (hW : S.Wf) (h : xSt S T G) (a : Int32) : Ok (f_X0_seed G a) (xA T (sSeed S a)) := by
  unfold f_X0_seed sSeed
  have hL := hW.now
  have hN := h.xn
  by_cases ha : 0 ≤ a
  · rw [if_pos ha, if_pos ha]
    simp only [gLet_e]
    have x1 := Int32.le_iff_toInt_le.mp ha
    have x4 : ((0 : Int32)).toInt = 0 := by decide
    refine ⟨_, rfl, h.now' hW (gOff.rf.S1 (by simp [nZ])) (rSame.rf.S1) (xLt.fld hL hN.1 hN.2 rfl rfl rfl rfl ?_ ?_ ?_ ?_), hN.1.2.2.2.1⟩
    · rw [gS_ne (by decide)]; exact hN.1.1
    · rw [gS_ne (by decide)]; exact hN.1.2.1
    · rw [gS_ne (by decide)]; exact hN.1.2.2.1
    · rw [gS_at]; exact nJ_of (show a.toInt = ((a.toInt.toNat : Nat) : Int) by omega)
  · rw [if_neg ha, if_neg ha]; exact ⟨_, rfl, h, rfl⟩
end
section
/-! the component: lose, storm, image, restore, type -/
theorem gOff.Rc {Z : Nat → Nat → Bool} {G G1 : gP} (h : gOff Z G G1) {a sp b dp n : Nat} (hz : ∀ j, dp ≤ j → j < dp + n → Z b j = true) : gOff Z G (gRc G1 a sp b dp n) := fun k j z => by
  refine ⟨(h k j z).1, (h k j z).2.1, ?_⟩
  rw [gR_Rc, if_neg (fun q => by obtain ⟨rfl, h1, h2⟩ := q; rw [hz j h1 h2] at z; cases z)]
  exact (h k j z).2.2
theorem xlose_ok {S : St} {T : Nat → Nat × Nat} {G : gP} (hW : S.Wf) (h : xSt S T G) (a : Int32) : Ok (f_X0_lose G a) (xA T (sLose S a)) := by
  unfold f_X0_lose sLose
  have hL := hW.now
  have h8 := hL.n8
  have hN := h.xn
  rw [xisSlot_rg h8 hN.1.1]
  cases ha : rg a 0 S.now.n with
  | none => exact ⟨_, rfl, h, rfl⟩
  | some s =>
    obtain ⟨-, hs, rfl⟩ := rg_some ha
    simp only [Option.isSome_some, if_true]
    rw [if_neg (by decide)]
    refine Ok.bind (xnote_ok hW h) (fun G1 h1 => ?_)
    obtain ⟨hx1, -, -⟩ := h1
    have hN1 : xNow G1 S.now := hx1.xn
    have hg := hN1.2
    unfold f_X6_lose
    rw [gIn_t (by omega) (by omega), gck_t, nI_clamp (by omega), hg.ref0 (by omega), obind_some, hN1.1.1, show nI S.now.n - 1 = nI (S.now.n - 1) from pk_sub (b := 1) (by omega)]
    simp only [gLet_e, gS_at]
    have hcp : gCp (nI s + 1) (nI s) (nI (S.now.n - 1) - nI s) 8 8 = true := by
      unfold gCp
      rw [nI_1, pk_sub (by omega)]
      apply decide_eq_true
      rw [nI_clamp (by omega), nI_clamp (by omega), nI_clamp (by omega)]
      exact ⟨nI_pos (by omega), nI_pos (by omega), nI_pos (by omega), by omega, by omega⟩
    rw [hcp, gck_t, nI_1, pk_sub (show s ≤ S.now.n - 1 by omega), nI_clamp (by omega), nI_clamp (by omega)]
    have hel : gEl (gS1 G1 32 1 (nI (S.now.n - 1))) (32 + 1) (s + 1) (S.now.n - 1 - s) 7 = true := by
      unfold gEl
      rw [List.all_eq_true]
      intro i hi
      rw [List.mem_range] at hi
      rw [gR_S1]
      obtain ⟨r1, p, hp, r2⟩ := hg.1 (s + 1 + i) (by omega)
      rw [r1]
      show decide _ = true
      apply decide_eq_true
      rw [r2]
      refine ⟨by omega, ?_⟩
      rw [show 32 + 2 + 3 * p = 32 + 26 * 0 + (2 + 3 * p) by omega, xT_lat (by omega) _ (by omega), xTl_slot]
    rw [hel, gck_t, gS_Rc, gS_at, gIn_t (by omega) (by omega), gck_t, nI_clamp (by omega)]
    -- the new references
    have hR : ∀ k j, k ≠ 33 → gR (gR1 (gRc (gS1 G1 32 1 (nI (S.now.n - 1))) (32 + 1) (s + 1) (32 + 1) s (S.now.n - 1 - s)) (32 + 1) (S.now.n - 1) (some (sgO G1 32 s))) k j = gR G1 k j := fun k j hk => by
      rw [gR_R1, if_neg (fun z => hk z.1), gR_Rc, if_neg (fun z => hk z.1), gR_S1]
    have hO : gOff (fun k j => decide (k = 33 ∨ (k = 32 ∧ j = 1))) G1 (gR1 (gRc (gS1 G1 32 1 (nI (S.now.n - 1))) (32 + 1) (s + 1) (32 + 1) s (S.now.n - 1 - s)) (32 + 1) (S.now.n - 1) (some (sgO G1 32 s))) := ((gOff.rf.S1 (by simp)).Rc (fun j _ _ => by simp)).R1 (by simp)
    have hS : ∀ k j, ¬ (k = 32 ∧ j = 1) → gS (gR1 (gRc (gS1 G1 32 1 (nI (S.now.n - 1))) (32 + 1) (s + 1) (32 + 1) s (S.now.n - 1 - s)) (32 + 1) (S.now.n - 1) (some (sgO G1 32 s))) k j = gS G1 k j := fun k j hk => by
      rw [gS_R1, gS_Rc, gS_ne hk]
    have h321 : gS (gR1 (gRc (gS1 G1 32 1 (nI (S.now.n - 1))) (32 + 1) (s + 1) (32 + 1) s (S.now.n - 1 - s)) (32 + 1) (S.now.n - 1) (some (sgO G1 32 s))) 32 1 = nI (S.now.n - 1) := by rw [gS_R1, gS_Rc, gS_at]
    have hP : ∀ j, j < 8 → gR (gR1 (gRc (gS1 G1 32 1 (nI (S.now.n - 1))) (32 + 1) (s + 1) (32 + 1) s (S.now.n - 1 - s)) (32 + 1) (S.now.n - 1) (some (sgO G1 32 s))) 33 j = some (sgO G1 32 (if j < s then j else if j < S.now.n - 1 then j + 1 else if j = S.now.n - 1 then s else j)) := fun j hj => by
      rw [gR_R1]
      by_cases e1 : j = S.now.n - 1
      · rw [if_pos ⟨rfl, e1⟩, if_neg (by omega), if_neg (by omega), if_pos e1]
      · rw [if_neg (fun z => e1 z.2), gR_Rc]
        by_cases e2 : s ≤ j ∧ j < S.now.n - 1
        · rw [if_pos ⟨rfl, by omega, by omega⟩, gR_S1, if_neg (by omega), if_pos e2.2, show s + 1 + (j - s) = j + 1 by omega]
          exact (hg.1 (j + 1) (by omega)).1
        · rw [if_neg (fun z => e2 ⟨z.2.1, by omega⟩), gR_S1]
          by_cases e3 : j < s
          · rw [if_pos e3]; exact (hg.1 j hj).1
          · rw [if_neg e3, if_neg (by omega), if_neg e1]; exact (hg.1 j hj).1
    have hrk : xRk (gR1 (gRc (gS1 G1 32 1 (nI (S.now.n - 1))) (32 + 1) (s + 1) (32 + 1) s (S.now.n - 1 - s)) (32 + 1) (S.now.n - 1) (some (sgO G1 32 s))) := by
      intro k j n hn
      rw [gR_R1] at hn
      split at hn
      · cases hn
        have := hg.rng (j := s) (by omega)
        exact Or.inl (by omega)
      · rw [gR_Rc] at hn
        split at hn
        · rw [gR_S1] at hn; exact hx1.rk _ _ _ hn
        · rw [gR_S1] at hn; exact hx1.rk _ _ _ hn
    generalize gR1 (gRc (gS1 G1 32 1 (nI (S.now.n - 1))) (32 + 1) (s + 1) (32 + 1) s (S.now.n - 1 - s)) (32 + 1) (S.now.n - 1) (some (sgO G1 32 s)) = G2 at *
    have hsO : ∀ j, j < 8 → sgO G2 32 j = sgO G1 32 (if j < s then j else if j < S.now.n - 1 then j + 1 else if j = S.now.n - 1 then s else j) := fun j hj => by
      show (gR G2 33 j).getD 0 = _
      rw [hP j hj]; rfl
    have hidx : ∀ j, j < 8 → (if j < s then j else if j < S.now.n - 1 then j + 1 else if j = S.now.n - 1 then s else j) < 8 := fun j hj => by
      split
      · omega
      · split
        · omega
        · split <;> omega
    have hsg : xSg G2 32 := by
      refine ⟨fun j hj => ?_, fun i j hi hj e => ?_⟩
      · rw [hsO j hj]
        exact ⟨hP j hj, (hg.1 _ (hidx j hj)).2⟩
      · rw [hsO i hi, hsO j hj] at e
        have := hg.2 _ _ (hidx i hi) (hidx j hj) e
        split at this
        · split at this
          · exact this
          · split at this
            · omega
            · split at this <;> omega
        · split at this
          · split at this
            · omega
            · split at this
              · omega
              · split at this <;> omega
          · split at this
            · split at this
              · omega
              · split at this
                · omega
                · split at this <;> omega
            · split at this
              · omega
              · split at this
                · omega
                · split at this <;> omega
    refine ⟨_, rfl, ?_, h321⟩
    refine hx1.frame (L := S.now.del s) (hW.up hW.now) hO (fun k j hk => hR k j hk) hsg hrk (fun k j hk => by simp; omega) ⟨h321, ?_, ?_, ?_, fun i hi => ?_⟩
    · rw [hS 32 2 (by omega)]; exact hN1.1.2.1
    · rw [hS 32 3 (by omega)]; exact hN1.1.2.2.1
    · rw [hS 32 4 (by omega)]; exact hN1.1.2.2.2.1
    · have hi' : i < S.now.n - 1 := hi
      rw [hsO i (by omega)]
      unfold Lt.del
      simp only [Lt.mk_n, Lt.mk_kind, Lt.mk_slack, Lt.mk_draw, Lt.mk_m, Lt.mk_w, Lt.mk_c, St.mk_now, St.mk_past, St.mk_kept, St.mk_tape, St.mk_sh]
      have cp : ∀ p, p < S.now.n → xSlt G2 (sgO G1 32 p) (S.now.m p) (S.now.w p) (S.now.c p) := fun p hp => by
        have rp := hg.rng (j := p) (by omega)
        have hx := hN1.1.2.2.2.2 p hp
        refine ⟨by rw [hS _ _ (by omega)]; exact hx.1, fun j hj => ⟨by rw [hS _ _ (by omega)]; exact (hx.2 j hj).1, by rw [hS _ _ (by omega)]; exact (hx.2 j hj).2⟩⟩
      by_cases e : i < s
      · simp only [e, if_true]; exact cp i (by omega)
      · simp only [e, if_false, hi', if_true]; exact cp (i + 1) (by omega)
theorem xdraw_I {d : Nat} (hd : d < 2 ^ 31) : (((nI d).toInt64 * 1103515245 + 12345) &&& 2147483647).toInt32 = nI (nxD d) := by
  rw [nxD_def, nI_L hd, show (1103515245 : Int64) = iL 1103515245 from rfl, show (12345 : Int64) = iL 12345 from rfl, iL_mul, iL_add]
  apply Int32.toBitVec_inj.mp
  apply BitVec.eq_of_toNat_eq
  have hm := Nat.mod_lt (d * 1103515245 + 12345) (show 0 < 2147483648 by omega)
  rw [toI_V, lV_and, pk_tn (by omega)]
  have e1 : lV (iL (d * 1103515245 + 12345)) = d * 1103515245 + 12345 := by
    show (BitVec.ofNat 64 (d * 1103515245 + 12345)).toNat = _
    rw [BitVec.toNat_ofNat, Nat.mod_eq_of_lt (by omega)]
  have e2 : lV (2147483647 : Int64) = 2 ^ 31 - 1 := by decide +kernel
  rw [e1, e2, Nat.and_two_pow_sub_one_eq_mod]
  omega
theorem drawOnce_ok {S : St} {T : Nat → Nat × Nat} {G : gP} (hW : S.Wf) (h : xSt (St.of (S.now) (pushP S.past S.now) (S.kept) (S.tape) (S.sh)) T G) : Ok (f_X0_drawOnce G) (fun G' => xSt (S.up S.now.drawn) T G') := by
  unfold f_X0_drawOnce
  have hL := hW.now
  have h8 := hL.n8
  have hN : xNow G S.now := h.xn
  simp only [gLet_e, gS_at]
  rw [hN.1.2.2.2.1, xdraw_I hL.dr]
  unfold Lt.drawn
  have hd := nxD_lt S.now.draw
  generalize nxD S.now.draw = d at *
  have hL3 : ((Lt.of (S.now.n) (S.now.kind) (S.now.slack) (d) (S.now.m) (S.now.w) (S.now.c)) : Lt).Wf := hL.hd hL.k5 hL.s20 hd
  have hx3 : xLt (gS1 G 32 4 (nI d)) 32 (Lt.of (S.now.n) (S.now.kind) (S.now.slack) (d) (S.now.m) (S.now.w) (S.now.c)) := by
    refine xLt.fld hL hN.1 hN.2 rfl rfl rfl rfl ?_ ?_ ?_ gS_at
    · rw [gS_ne (by decide)]; exact hN.1.1
    · rw [gS_ne (by decide)]; exact hN.1.2.1
    · rw [gS_ne (by decide)]; exact hN.1.2.2.1
  have hO3 : gOff nZ G (gS1 G 32 4 (nI d)) := gOff.rf.S1 (by simp [nZ])
  have hr3 : rSame G (gS1 G 32 4 (nI d)) := rSame.rf.S1
  generalize gS1 G 32 4 (nI d) = G3 at *
  have hg3 := hN.2.same hr3
  have hx : nI d / 65536 = nI (d / 65536) := pk_div (d := 65536) hd (by decide) (by decide)
  rw [hx]
  have hx31 : d / 65536 < 2 ^ 31 := by omega
  generalize d / 65536 = x at *
  have e0 : gS G3 32 1 = nI S.now.n := hx3.1
  rw [e0]
  unfold Lt.dr1
  by_cases h0 : S.now.n = 0
  · rw [if_pos h0, if_pos (show nI S.now.n = 0 by rw [h0]; rfl)]
    exact ⟨_, rfl, h.up hW hO3 hr3 hx3⟩
  · rw [if_neg h0, if_neg (nI_ne0 (by omega) (by omega)), gNz_nI (by omega) (by omega), gck_t, gRem_nI hx31 (by omega) (by omega)]
    have hs : x % S.now.n < S.now.n := Nat.mod_lt _ (by omega)
    have hx8 : gRem (nI x / 8) 32 = nI (x / 8 % 32) := by
      rw [show (8 : Int32) = nI 8 from rfl, pk_div hx31 (by decide) (by decide), show (32 : Int32) = nI 32 from rfl, gRem_nI (by omega) (by decide) (by decide)]
    have hx256 : gRem (nI x / 256) 10 = nI (x / 256 % 10) := by
      rw [show (256 : Int32) = nI 256 from rfl, pk_div hx31 (by decide) (by decide), show (10 : Int32) = nI 10 from rfl, gRem_nI (by omega) (by decide) (by decide)]
    rw [hx8, hx256, gIn_t (by omega) (by omega), gck_t, nI_clamp (by omega), hg3.ref0 (by omega), obind_some]
    have hsl : xSlt G3 (sgO G3 32 (x % S.now.n)) (S.now.m (x % S.now.n)) (S.now.w (x % S.now.n)) (S.now.c (x % S.now.n)) := hx3.2.2.2.2 _ hs
    have hm := hL.m1 _ hs
    rw [hsl.1]
    by_cases h4 : 4 ≤ S.now.m (x % S.now.n)
    · rw [if_pos (show (4 : Int32) ≤ nI (S.now.m (x % S.now.n)) from nI_le (a := 4) h4 (by omega)), if_neg (fun z => by omega)]
      exact ⟨_, rfl, h.up hW hO3 hr3 hx3⟩
    · rw [if_neg (show ¬ (4 : Int32) ≤ nI (S.now.m (x % S.now.n)) from nI_ge (b := 4) (by omega) (by decide))]
      refine Ok.bind (find_ok hsl hm.2 (fun j hj => hL.w32 _ j hs hj) (show x / 8 % 32 < 2 ^ 31 by omega)) (fun r hr => ?_)
      subst hr
      cases hf : fnd (S.now.w (x % S.now.n)) (x / 8 % 32) (S.now.m (x % S.now.n)) with
      | some j =>
        have := fnd_some _ _ hf
        rw [if_pos (show 0 ≤ rI (some j) from nI_pos' (by omega)), if_neg (fun z => by cases z.2)]
        exact ⟨_, rfl, h.up hW hO3 hr3 hx3⟩
      | none =>
        rw [if_neg (show ¬ 0 ≤ rI none by decide), if_pos ⟨by omega, rfl⟩, obs]
        refine (add_ok hsl (by omega) (x / 8 % 32) (x / 256 % 10)).imp ?_
        rintro G4 ⟨a, b, c⟩
        refine h.up hW (hO3.tr (a.w (fun k j z => sZ_n hg3 (by omega) z))) (hr3.tr b) ?_
        exact xLt.put hL3 hx3 hg3 hs a b c
theorem xstorm_ok {S : St} {T : Nat → Nat × Nat} {G : gP} (hW : S.Wf) (h : xSt S T G) (a : Int32) : Ok (f_X0_storm G a) (xA T (sStorm S a)) := by
  unfold f_X0_storm sStorm
  rw [isIn_rg a (lo := 1) (hi := 41) rfl rfl]
  cases ha : rg a 1 41 with
  | none => exact ⟨_, rfl, h, rfl⟩
  | some n =>
    obtain ⟨hn1, hn, rfl⟩ := rg_some ha
    simp only [Option.isSome_some, if_true]
    rw [if_neg (by decide)]
    refine Ok.bind (Q := fun G1 => xSt (S.storm n) T G1) ?_ (fun G1 h1 => ?_)
    · have hs0 : S.storm 0 = S := by unfold St.storm; rfl
      refine Ok.up (fun i s => s.2 = nI i ∧ xSt (S.storm i) T s.1) n (by omega) ?_ ?_ ⟨rfl, by rw [hs0]; exact h⟩
      · rintro i ⟨G1, x⟩ hi ⟨hx, h1⟩
        simp only at hx h1
        subst hx
        unfold f_X0_storm_b16
        simp only
        rw [if_neg (nI_ge hi (by omega))]
        refine Ok.bind (xnote_ok (hW.storm i) h1) (fun G2 h2 => ?_)
        refine Ok.bind (drawOnce_ok (hW.storm i) h2.1) (fun G3 h3 => ⟨_, rfl, nI_1 i, ?_⟩)
        have e : S.storm (i + 1) = (S.storm i).up (S.storm i).now.drawn := by rw [St.storm]
        rw [e]; exact h3
      · rintro ⟨G1, x⟩ ⟨hx, h1⟩
        simp only at hx h1
        subst hx
        unfold f_X0_storm_b16
        simp only
        rw [if_pos (nI_le (Nat.le_refl _) (by omega))]
        exact ⟨_, rfl, h1⟩
    · have hL := (hW.storm n).now
      have h8 := hL.n8
      have hN := h1.xn
      refine Ok.bind (Q := fun x => x = nI (su (S.storm n).now.m (S.storm n).now.n)) ?_ (fun x hx => ⟨_, rfl, h1, hx⟩)
      refine Ok.up (fun i s => s = (nI (su (S.storm n).now.m i), nI i)) (S.storm n).now.n (by omega) ?_ ?_ rfl
      · rintro i s hi rfl
        unfold f_X0_storm_b39
        simp only
        rw [hN.1.1, if_neg (nI_ge hi (by omega)), gIn_t (by omega) (by omega), gck_t, nI_clamp (by omega), hN.2.ref0 (by omega), obind_some, (hN.1.2.2.2.2 i hi).1]
        simp only [gLet_e]
        rw [nI_add, nI_1]
        exact ⟨_, rfl, rfl⟩
      · rintro s rfl
        unfold f_X0_storm_b39
        simp only
        rw [hN.1.1, if_pos (nI_le (Nat.le_refl _) (by omega))]
        exact ⟨_, rfl, rfl⟩
theorem xtype_ok {S : St} {T : Nat → Nat × Nat} {G : gP} (hW : S.Wf) (h : xSt S T G) (a : Int32) : Ok (f_X0_type G a) (xA T (sType S a)) := by
  unfold f_X0_type sType
  rw [isIn_rg a (lo := 32) (hi := 127) rfl rfl]
  cases ha : rg a 32 127 with
  | none => exact ⟨_, rfl, h, rfl⟩
  | some v =>
    obtain ⟨-, hv, rfl⟩ := rg_some ha
    simp only [Option.isSome_some, if_true]
    have h120 := hW.tape.1
    have hch : vp_nar .char (((nI v).toUInt32 % 65536).toInt32) = nI v := by
      rw [pk_vc, pk_char, pk_tn (by omega), Nat.mod_eq_of_lt (by omega)]
    rw [if_neg (by decide), h.tp, hch]
    by_cases hn : S.tape.length = 120
    · rw [if_pos hn, hn, if_pos (show nI 120 = 120 from rfl)]; exact ⟨_, rfl, h, rfl⟩
    · rw [if_neg hn, if_neg (show ¬ nI S.tape.length = 120 from fun z => hn ((nI_eq (b := 120) (by omega) (by decide)).mp z)), gIn_t (by omega) (by omega), gck_t, nI_clamp (by omega)]
      simp only [gLet_e]
      rw [gS_ne (show ¬ (0 = 9 ∧ 11 = S.tape.length) by omega), h.tp, nI_1, gS_at]
      have hO : gOff (fun k j => decide (k = 9 ∨ (k = 0 ∧ j = 11))) G (gS1 (gS1 G 9 S.tape.length (nI v)) 0 11 (nI (S.tape.length + 1))) := (gOff.rf.S1 (by simp)).S1 (by simp)
      have hr : rSame G (gS1 (gS1 G 9 S.tape.length (nI v)) 0 11 (nI (S.tape.length + 1))) := (rSame.rf.S1).S1
      have hlt : ∀ i L, i < 19 → L.n ≤ 8 → xLt G (32 + 26 * i) L → xLt (gS1 (gS1 G 9 S.tape.length (nI v)) 0 11 (nI (S.tape.length + 1))) (32 + 26 * i) L := fun i L hi h8 hx => hx.off h8 (h.sg i hi) hO hr (fun k j a b => by simp; omega)
      refine ⟨_, rfl, ⟨h.rk.same hr, fun i hi => (h.sg i hi).same hr, h.pa.same hr, fun j hj => by rw [hr]; exact h.ka j hj, hlt 0 _ (by omega) hW.now.n8 h.now, ?_, fun i L hi => ?_, ?_, ?_, ?_, fun s hs => (h.sh s hs).off hO (hr _ _) (fun j => by simp; omega)⟩, rfl⟩
      · rw [(hO 0 16 (by simp)).1]; exact h.un
      · have hil : i < S.past.length := (List.getElem?_eq_some_iff.mp hi).1
        have hp8 := hW.p8
        have hx := h.past i L hi
        have e2 : paO (gS1 (gS1 G 9 S.tape.length (nI v)) 0 11 (nI (S.tape.length + 1))) i = paO G i := rfl
        rw [e2]
        obtain ⟨-, p', hp', e'⟩ := h.pa.1 i (by omega)
        rw [e'] at hx ⊢
        exact hlt _ L (by omega) (hW.past L (List.mem_of_getElem? hi)).n8 hx
      · have hkk : xKp G S.kept := h.kept
        show xKp _ S.kept
        cases hSk : S.kept with
        | none => rw [hSk] at hkk; show gS _ 0 20 = 0; rw [(hO 0 20 (by simp)).1]; exact hkk
        | some z =>
          obtain ⟨Lk, pk⟩ := z
          rw [hSk] at hkk
          obtain ⟨k1, k2, k3, k4⟩ := hkk
          obtain ⟨w1, w2, w3⟩ := hW.kept Lk pk hSk
          refine ⟨by rw [(hO 0 20 (by simp)).1]; exact k1, by rw [(hO 0 19 (by simp)).1]; exact k2, hlt 2 Lk (by omega) w1.n8 k3, fun i L' hi => ?_⟩
          have hil : i < pk.length := (List.getElem?_eq_some_iff.mp hi).1
          exact hlt (11 + i) L' (by omega) (w2 L' (List.mem_of_getElem? hi)).n8 (k4 i L' hi)
      · show gS _ 0 11 = nI (S.tape ++ [v]).length
        rw [gS_at, List.length_append, List.length_singleton]
      · have := (h.tape.push (v := v)).S1 (a := 0) (i := 11) (v := nI (S.tape.length + 1)) (Or.inl (by decide))
        rwa [Nat.zero_add] at this
end
section
/-! the component: image, restore -/
theorem xka_ref {j : Nat} (hj : j < 8) : xRef (some (32 + 26 * (11 + j))) 6 = some (32 + 26 * (11 + j)) := xRef_lat (by omega)
theorem ximage_ok {S : St} {T : Nat → Nat × Nat} {G : gP} (hW : S.Wf) (h : xSt S T G) : Ok (f_X0_image G) (xA T (sImage S)) := by
  unfold f_X0_image
  have hp8 := hW.p8
  have hn : xLt G (32 + 26 * 0) S.now := h.now
  refine Ok.bind (latTake_ok (i := 2) (j := 0) (by omega) (by omega) (by omega) (h.sg 2 (by omega)) (h.sg 0 (by omega)) hW.now hn) (fun G1 h1 => ?_)
  obtain ⟨hO1, hr1, hx1⟩ := h1
  refine Ok.bind (Q := fun G2 => gOff (fun k _ => decide (318 ≤ k ∧ k < 526)) G1 G2 ∧ rSame G1 G2 ∧ ∀ i L, S.past[i]? = some L → xLt G2 (32 + 26 * (11 + i)) L) ?_ (fun G2 h2 => ?_)
  · refine Ok.up (fun p s => s.2 = nI p ∧ gOff (fun k _ => decide (318 ≤ k ∧ k < 526)) G1 s.1 ∧ rSame G1 s.1 ∧ ∀ i L, i < p → S.past[i]? = some L → xLt s.1 (32 + 26 * (11 + i)) L) S.past.length (by omega) ?_ ?_ ⟨rfl, gOff.rf, rSame.rf, fun i L hi => by omega⟩
    · rintro p ⟨G2, x⟩ hp ⟨hx, hO, hr, hl⟩
      simp only at hx hO hr hl
      subst hx
      unfold f_X0_image_b13
      simp only
      have hr02 : rSame G G2 := hr1.tr hr
      have e16 : gS G2 0 16 = nI S.past.length := by rw [(hO 0 16 (by simp)).1, (hO1 0 16 (by simp [lZ])).1]; exact h.un
      obtain ⟨L, hL⟩ : ∃ L, S.past[p]? = some L := ⟨_, List.getElem?_eq_getElem hp⟩
      have hLW := hW.past L (List.mem_of_getElem? hL)
      obtain ⟨r1, q, hq, r2⟩ := h.pa.1 p (by omega)
      rw [e16, if_neg (nI_ge hp (by omega)), gIn_t (by omega) (by omega), gck_t, nI_clamp (by omega), hr02, hr02, h.ka p (by omega), r1, r2, xka_ref (by omega), obind_some, gck_t, xRef_lat (by omega), obind_some]
      have hsrc : xLt G2 (32 + 26 * (3 + q)) L := by
        have := h.past p L hL
        rw [r2] at this
        refine (this.off hLW.n8 (h.sg _ (by omega)) hO1 hr1 (fun k j a b => by simp [lZ]; omega)).off hLW.n8 ((h.sg _ (by omega)).same hr1) hO hr (fun k j a b => by simp; omega)
      refine Ok.bind (latTake_ok (i := 11 + p) (j := 3 + q) (by omega) (by omega) (by omega) ((h.sg _ (by omega)).same hr02) ((h.sg _ (by omega)).same hr02) hLW hsrc) (fun G3 h3 => ?_)
      obtain ⟨hO3, hr3, hx3⟩ := h3
      refine ⟨_, rfl, nI_1 p, hO.tr (hO3.w (fun k j z => by simp [lZ] at z ⊢; omega)), hr.tr hr3, fun i L' hi hL' => ?_⟩
      simp only
      by_cases e : i = p
      · subst e; rw [hL] at hL'; cases hL'; exact hx3
      · exact (hl i L' (by omega) hL').off (hW.past L' (List.mem_of_getElem? hL')).n8 ((h.sg _ (by omega)).same hr02) hO3 hr3 (fun k j a b => by simp [lZ]; omega)
    · rintro ⟨G2, x⟩ ⟨hx, hO, hr, hl⟩
      simp only at hx hO hr hl
      subst hx
      unfold f_X0_image_b13
      simp only
      have e16 : gS G2 0 16 = nI S.past.length := by rw [(hO 0 16 (by simp)).1, (hO1 0 16 (by simp [lZ])).1]; exact h.un
      rw [e16, if_pos (nI_le (Nat.le_refl _) (by omega))]
      exact ⟨_, rfl, hO, hr, fun i L hL => hl i L (List.getElem?_eq_some_iff.mp hL).1 hL⟩
  · obtain ⟨hO2, hr2, hl2⟩ := h2
    simp only [gLet_e]
    have e16 : gS G2 0 16 = nI S.past.length := by rw [(hO2 0 16 (by simp)).1, (hO1 0 16 (by simp [lZ])).1]; exact h.un
    rw [e16]
    have hr02 : rSame G G2 := hr1.tr hr2
    have hO3 : gOff (fun k j => decide (k = 0 ∧ (j = 19 ∨ j = 20))) G2 (gS1 (gS1 G2 0 19 (nI S.past.length)) 0 20 1) := (gOff.rf.S1 (by simp)).S1 (by simp)
    have hr3 : rSame G2 (gS1 (gS1 G2 0 19 (nI S.past.length)) 0 20 1) := (rSame.rf.S1).S1
    have h19 : gS (gS1 (gS1 G2 0 19 (nI S.past.length)) 0 20 1) 0 19 = nI S.past.length := by rw [gS_ne (by decide), gS_at]
    have h20 : gS (gS1 (gS1 G2 0 19 (nI S.past.length)) 0 20 1) 0 20 = 1 := gS_at
    generalize gS1 (gS1 G2 0 19 (nI S.past.length)) 0 20 1 = G3 at *
    have hr : rSame G G3 := hr02.tr hr3
    have hO : gOff (fun k j => decide ((84 ≤ k ∧ k < 110) ∨ (318 ≤ k ∧ k < 526) ∨ (k = 0 ∧ (j = 19 ∨ j = 20)))) G G3 := ((hO1.w (fun k j z => by simp [lZ] at z ⊢; omega)).tr (hO2.w (fun k j z => by simp at z ⊢; omega))).tr (hO3.w (fun k j z => by simp at z ⊢; omega))
    have hlt : ∀ i L, i < 2 ∨ (3 ≤ i ∧ i < 11) → L.n ≤ 8 → xLt G (32 + 26 * i) L → xLt G3 (32 + 26 * i) L := fun i L hi h8 hx => hx.off h8 (h.sg i (by omega)) hO hr (fun k j a b => by simp; omega)
    refine ⟨_, rfl, ⟨h.rk.same hr, fun i hi => (h.sg i hi).same hr, h.pa.same hr, fun j hj => by rw [hr]; exact h.ka j hj, hlt 0 _ (by omega) hW.now.n8 h.now, ?_, fun i L hi => ?_, ?_, ?_, ?_, fun s hs => (h.sh s hs).off hO (hr _ _) (fun j => by simp; omega)⟩, rfl⟩
    · rw [(hO 0 16 (by simp)).1]; exact h.un
    · have hil : i < S.past.length := (List.getElem?_eq_some_iff.mp hi).1
      have hx := h.past i L hi
      have e2 : paO G3 i = paO G i := by unfold paO; rw [hr]
      rw [e2]
      obtain ⟨-, p', hp', e'⟩ := h.pa.1 i (by omega)
      rw [e'] at hx ⊢
      exact hlt _ L (by omega) (hW.past L (List.mem_of_getElem? hi)).n8 hx
    · refine ⟨h20, h19, ?_, fun i L' hi => ?_⟩
      · exact (hx1.off hW.now.n8 ((h.sg 2 (by omega)).same hr1) hO2 hr2 (fun k j a b => by simp; omega)).off hW.now.n8 ((h.sg 2 (by omega)).same hr02) hO3 hr3 (fun k j a b => by simp; omega)
      · have hil : i < S.past.length := (List.getElem?_eq_some_iff.mp hi).1
        exact (hl2 i L' hi).off (hW.past L' (List.mem_of_getElem? hi)).n8 ((h.sg (11 + i) (by omega)).same hr02) hO3 hr3 (fun k j a b => by simp; omega)
    · rw [(hO 0 11 (by simp)).1]; exact h.tp
    · intro j v hj; rw [(hO 9 _ (by simp)).1]; exact h.tape j v hj
theorem xrestore_ok {S : St} {T : Nat → Nat × Nat} {G : gP} (hW : S.Wf) (h : xSt S T G) : Ok (f_X0_restore G) (xA T (sRestore S)) := by
  unfold f_X0_restore sRestore
  have hkk := h.kept
  cases hSk : S.kept with
  | none =>
    rw [hSk] at hkk
    rw [if_pos (show gS G 0 20 = 0 from hkk)]
    exact ⟨_, rfl, h, rfl⟩
  | some z =>
    obtain ⟨L, p⟩ := z
    rw [hSk] at hkk
    obtain ⟨k1, k2, k3, k4⟩ := hkk
    obtain ⟨w1, w2, w3⟩ := hW.kept L p hSk
    rw [k1, if_neg (by decide)]
    have k3' : xLt G (32 + 26 * 2) L := k3
    refine Ok.bind (latTake_ok (i := 0) (j := 2) (by omega) (by omega) (by omega) (h.sg 0 (by omega)) (h.sg 2 (by omega)) w1 k3') (fun G1 h1 => ?_)
    obtain ⟨hO1, hr1, hx1⟩ := h1
    refine Ok.bind (Q := fun G2 => gOff (fun k _ => decide (110 ≤ k ∧ k < 318)) G1 G2 ∧ rSame G1 G2 ∧ ∀ i L, p[i]? = some L → xLt G2 (paO G i) L) ?_ (fun G2 h2 => ?_)
    · refine Ok.up (fun t s => s.2 = nI t ∧ gOff (fun k _ => decide (110 ≤ k ∧ k < 318)) G1 s.1 ∧ rSame G1 s.1 ∧ ∀ i L, i < t → p[i]? = some L → xLt s.1 (paO G i) L) p.length (by omega) ?_ ?_ ⟨rfl, gOff.rf, rSame.rf, fun i L hi => by omega⟩
      · rintro t ⟨G2, x⟩ ht ⟨hx, hO, hr, hl⟩
        simp only at hx hO hr hl
        subst hx
        unfold f_X0_restore_b23
        simp only
        have hr02 : rSame G G2 := hr1.tr hr
        have e19 : gS G2 0 19 = nI p.length := by rw [(hO 0 19 (by simp)).1, (hO1 0 19 (by simp [lZ])).1]; exact k2
        obtain ⟨L', hL'⟩ : ∃ L', p[t]? = some L' := ⟨_, List.getElem?_eq_getElem ht⟩
        have hLW := w2 L' (List.mem_of_getElem? hL')
        obtain ⟨r1, q, hq, r2⟩ := h.pa.1 t (by omega)
        rw [e19, if_neg (nI_ge ht (by omega)), gIn_t (by omega) (by omega), gck_t, nI_clamp (by omega), hr02, hr02, h.ka t (by omega), r1, r2, xRef_lat (by omega), obind_some, gck_t, xka_ref (by omega), obind_some]
        have hsrc : xLt G2 (32 + 26 * (11 + t)) L' := ((k4 t L' hL').off hLW.n8 (h.sg _ (by omega)) hO1 hr1 (fun k j a b => by simp [lZ]; omega)).off hLW.n8 ((h.sg _ (by omega)).same hr1) hO hr (fun k j a b => by simp; omega)
        refine Ok.bind (latTake_ok (i := 3 + q) (j := 11 + t) (by omega) (by omega) (by omega) ((h.sg _ (by omega)).same hr02) ((h.sg _ (by omega)).same hr02) hLW hsrc) (fun G3 h3 => ?_)
        obtain ⟨hO3, hr3, hx3⟩ := h3
        refine ⟨_, rfl, nI_1 t, hO.tr (hO3.w (fun k j z => by simp [lZ] at z ⊢; omega)), hr.tr hr3, fun i L2 hi hL2 => ?_⟩
        simp only
        by_cases e : i = t
        · subst e; rw [hL'] at hL2; cases hL2; rw [r2]; exact hx3
        · have hx := hl i L2 (by omega) hL2
          obtain ⟨-, q', hq', e'⟩ := h.pa.1 i (by omega)
          have hne : paO G i ≠ paO G t := fun z => e (h.pa.2 i t (by omega) (by omega) z)
          rw [e'] at hx hne ⊢
          rw [r2] at hne
          exact hx.off (w2 L2 (List.mem_of_getElem? hL2)).n8 ((h.sg _ (by omega)).same hr02) hO3 hr3 (fun k j a b => by simp [lZ]; omega)
      · rintro ⟨G2, x⟩ ⟨hx, hO, hr, hl⟩
        simp only at hx hO hr hl
        subst hx
        unfold f_X0_restore_b23
        simp only
        have e19 : gS G2 0 19 = nI p.length := by rw [(hO 0 19 (by simp)).1, (hO1 0 19 (by simp [lZ])).1]; exact k2
        rw [e19, if_pos (nI_le (Nat.le_refl _) (by omega))]
        exact ⟨_, rfl, hO, hr, fun i L hL => hl i L (List.getElem?_eq_some_iff.mp hL).1 hL⟩
    · obtain ⟨hO2, hr2, hl2⟩ := h2
      simp only [gLet_e]
      have e19 : gS G2 0 19 = nI p.length := by rw [(hO2 0 19 (by simp)).1, (hO1 0 19 (by simp [lZ])).1]; exact k2
      rw [e19]
      have hr02 : rSame G G2 := hr1.tr hr2
      have hO3 : gOff (fun k j => decide (k = 0 ∧ j = 16)) G2 (gS1 G2 0 16 (nI p.length)) := gOff.rf.S1 (by simp)
      have hr3 : rSame G2 (gS1 G2 0 16 (nI p.length)) := rSame.rf.S1
      have h16 : gS (gS1 G2 0 16 (nI p.length)) 0 16 = nI p.length := gS_at
      generalize gS1 G2 0 16 (nI p.length) = G3 at *
      have hr : rSame G G3 := hr02.tr hr3
      have hO : gOff (fun k j => decide ((32 ≤ k ∧ k < 58) ∨ (110 ≤ k ∧ k < 318) ∨ (k = 0 ∧ j = 16))) G G3 := ((hO1.w (fun k j z => by simp [lZ] at z ⊢; omega)).tr (hO2.w (fun k j z => by simp at z ⊢; omega))).tr (hO3.w (fun k j z => by simp at z ⊢; omega))
      have hlt : ∀ i L, i = 2 ∨ (11 ≤ i ∧ i < 19) → L.n ≤ 8 → xLt G (32 + 26 * i) L → xLt G3 (32 + 26 * i) L := fun i L hi h8 hx => hx.off h8 (h.sg i (by omega)) hO hr (fun k j a b => by simp; omega)
      refine ⟨_, rfl, ⟨h.rk.same hr, fun i hi => (h.sg i hi).same hr, h.pa.same hr, fun j hj => by rw [hr]; exact h.ka j hj, ?_, h16, fun i L' hi => ?_, ?_, ?_, ?_, fun s hs => (h.sh s hs).off hO (hr _ _) (fun j => by simp; omega)⟩, rfl⟩
      · exact (hx1.off w1.n8 ((h.sg 0 (by omega)).same hr1) hO2 hr2 (fun k j a b => by simp; omega)).off w1.n8 ((h.sg 0 (by omega)).same hr02) hO3 hr3 (fun k j a b => by simp; omega)
      · have hil : i < p.length := (List.getElem?_eq_some_iff.mp hi).1
        have hx := hl2 i L' hi
        have e2 : paO G3 i = paO G i := by unfold paO; rw [hr]
        rw [e2]
        obtain ⟨-, p', hp', e'⟩ := h.pa.1 i (by omega)
        rw [e'] at hx ⊢
        exact hx.off (w2 L' (List.mem_of_getElem? hi)).n8 ((h.sg _ (by omega)).same hr02) hO3 hr3 (fun k j a b => by simp; omega)
      · refine ⟨by rw [(hO 0 20 (by simp)).1]; exact k1, by rw [(hO 0 19 (by simp)).1]; exact k2, hlt 2 L (by omega) w1.n8 k3, fun i L' hi => ?_⟩
        have hil : i < p.length := (List.getElem?_eq_some_iff.mp hi).1
        exact hlt (11 + i) L' (by omega) (w2 L' (List.mem_of_getElem? hi)).n8 (k4 i L' hi)
      · rw [(hO 0 11 (by simp)).1]; exact h.tp
      · intro j v hj; rw [(hO 9 _ (by simp)).1]; exact h.tape j v hj
end
section
/-! a number said: its words; the Model says it -/
def nz (l : List Nat) : List Nat := l.filter (fun x => decide (x ≠ 0))
def tW (v : Nat) : Nat := if v % 100 < 20 then v % 100 else v / 10 % 10 + 18
def uW (v : Nat) : Nat := if v % 100 < 20 then 0 else v % 10
def smL (v : Nat) : List Nat := nz [v / 100, if v < 100 then 0 else 28, tW v, uW v]
def sayL (v : Nat) : List Nat := smL (v / 1000) ++ nz [if v / 1000 = 0 then 0 else 29] ++ smL (v % 1000)
theorem nz_app (a b : List Nat) : nz (a ++ b) = nz a ++ nz b := List.filter_append ..
theorem nz_c (a : Nat) (b : List Nat) : nz (a :: b) = (if a = 0 then [] else [a]) ++ nz b := by
  unfold nz
  by_cases h : a = 0
  · rw [if_pos h, List.filter_cons_of_neg (by simp [h])]; rfl
  · rw [if_neg h, List.filter_cons_of_pos (by simp [h])]; rfl
theorem smL_eq {v : Nat} (h : v < 1000) : smL v = (if v < 100 then [] else [v / 100, 28]) ++ ((if v % 100 ≤ 19 then [] else [18 + v % 100 / 10]) ++ (if (if v % 100 ≤ 19 then v % 100 else v % 100 % 10) = 0 then [] else [if v % 100 ≤ 19 then v % 100 else v % 100 % 10])) := by
  unfold smL tW uW
  rw [nz_c, nz_c, nz_c, nz_c]
  have e0 : nz [] = [] := rfl
  rw [e0, List.append_nil]
  have e1 : v % 100 % 10 = v % 10 := by omega
  have e2 : v % 100 / 10 = v / 10 % 10 := by omega
  rw [e1, e2]
  by_cases h1 : v < 100
  · rw [if_pos h1, if_pos h1, if_pos (show v / 100 = 0 by omega), if_pos rfl]
    by_cases h2 : v % 100 < 20
    · rw [if_pos h2, if_pos h2, if_pos (show v % 100 ≤ 19 by omega), if_pos (show v % 100 ≤ 19 by omega), if_pos rfl]
      simp
    · rw [if_neg h2, if_neg h2, if_neg (show ¬ v % 100 ≤ 19 by omega), if_neg (show ¬ v % 100 ≤ 19 by omega), if_neg (show ¬ v / 10 % 10 + 18 = 0 by omega), Nat.add_comm (v / 10 % 10) 18]
      simp
  · rw [if_neg h1, if_neg h1, if_neg (show ¬ v / 100 = 0 by omega), if_neg (by decide)]
    by_cases h2 : v % 100 < 20
    · rw [if_pos h2, if_pos h2, if_pos (show v % 100 ≤ 19 by omega), if_pos (show v % 100 ≤ 19 by omega), if_pos rfl]
      simp
    · rw [if_neg h2, if_neg h2, if_neg (show ¬ v % 100 ≤ 19 by omega), if_neg (show ¬ v % 100 ≤ 19 by omega), if_neg (show ¬ v / 10 % 10 + 18 = 0 by omega), Nat.add_comm (v / 10 % 10) 18]
      simp
theorem nz_lt {l : List Nat} (h : ∀ x ∈ l, x < 32) : ∀ x ∈ nz l, x < 32 := fun x hx => h x (List.mem_filter.mp hx).1
theorem smL_lt {v : Nat} (h : v < 1000) : ∀ x ∈ smL v, x < 32 := by
  refine nz_lt (fun x hx => ?_)
  simp only [List.mem_cons, List.mem_nil_iff, or_false] at hx
  unfold tW uW at hx
  rcases hx with rfl | rfl | rfl | rfl
  · omega
  · split <;> omega
  · split <;> omega
  · split <;> omega
theorem sayL_lt {v : Nat} (h : v < 1000000) : ∀ x ∈ sayL v, x < 32 := by
  intro x hx
  unfold sayL at hx
  rw [List.mem_append, List.mem_append] at hx
  rcases hx with (hx | hx) | hx
  · exact smL_lt (by omega) x hx
  · refine nz_lt (fun y hy => ?_) x hx
    rw [List.mem_singleton] at hy
    subst hy
    split <;> omega
  · exact smL_lt (by omega) x hx
theorem smL_len (v : Nat) : (smL v).length ≤ 4 := Nat.le_trans (List.length_filter_le _ _) (by simp)
theorem sayL_len (v : Nat) : (sayL v).length ≤ 9 := by
  unfold sayL
  rw [List.length_append, List.length_append]
  have h1 := smL_len (v / 1000)
  have h2 := smL_len (v % 1000)
  have h3 : (nz [if v / 1000 = 0 then 0 else 29]).length ≤ 1 := Nat.le_trans (List.length_filter_le _ _) (by simp)
  omega
/-- words in place of all -/
def Lt.sayF (L : Lt) (ws : List Nat) : Lt := ws.foldl (fun L w => L.more w 0) (Lt.of (0) (L.kind) (L.slack) (L.draw) (L.m) (L.w) (L.c))
theorem Lt.sayF_s (L : Lt) (ws : List Nat) (w : Nat) : L.sayF (ws ++ [w]) = (L.sayF ws).more w 0 := by
  unfold Lt.sayF
  rw [List.foldl_append]; rfl
theorem Lt.sayF_n (L : Lt) : ∀ ws : List Nat, (L.sayF ws.reverse).n = ws.length := by
  intro ws
  induction ws with
  | nil => rfl
  | cons w ws ih => rw [List.reverse_cons, L.sayF_s]; show (L.sayF ws.reverse).n + 1 = _; rw [ih]; rfl
theorem Lt.sayF_len (L : Lt) (ws : List Nat) : (L.sayF ws).n = ws.length := by
  have := L.sayF_n ws.reverse
  rw [List.reverse_reverse, List.length_reverse] at this
  exact this
theorem Lt.Wf.n0 {L : Lt} (hL : L.Wf) : ((Lt.of (0) (L.kind) (L.slack) (L.draw) (L.m) (L.w) (L.c)) : Lt).Wf := ⟨Nat.zero_le _, hL.k5, hL.s20, hL.dr, fun k hk => absurd hk (Nat.not_lt_zero k), fun k _ hk => absurd hk (Nat.not_lt_zero k), fun k _ hk => absurd hk (Nat.not_lt_zero k), fun k _ _ hk => absurd hk (Nat.not_lt_zero k)⟩
theorem Lt.Wf.sayF {L : Lt} (hL : L.Wf) : ∀ ws : List Nat, ws.length ≤ 8 → (∀ w ∈ ws, w < 32) → (L.sayF ws.reverse).Wf := by
  intro ws
  induction ws with
  | nil => intro _ _; exact hL.n0
  | cons w ws ih =>
    intro h1 h2
    rw [List.length_cons] at h1
    rw [List.reverse_cons, L.sayF_s]
    exact (ih (by omega) (fun x hx => h2 x (List.mem_cons_of_mem _ hx))).more (by rw [L.sayF_n]; omega) (h2 w (by simp)) (by omega)
theorem Lt.Wf.sayW {L : Lt} (hL : L.Wf) {ws : List Nat} (h1 : ws.length ≤ 8) (h2 : ∀ w ∈ ws, w < 32) : (L.sayF ws).Wf := by
  have := hL.sayF ws.reverse (by rw [List.length_reverse]; exact h1) (fun w hw => h2 w (List.mem_reverse.mp hw))
  rwa [List.reverse_reverse] at this
def sSay (S : St) (a : Int32) : St × Int32 := match rg a 1 1000000 with
  | none => (S, -1)
  | some v => if 8 < (sayL v).length then (S, -3) else ((St.of (S.now.sayF (sayL v)) ([]) (S.kept) (S.tape) (S.sh)), nI (sayL v).length)
def mSy (G : gP) (l : List Nat) : Prop := gS G 0 27 = nI l.length ∧ aL G 13 0 l
def syZ (k j : Nat) : Bool := decide (k = 13 ∨ (k = 0 ∧ j = 27))
theorem says_ok {G : gP} {l : List Nat} (h : mSy G l) (hl : l.length < 10) (w : Nat) : Ok (f_X11_says G (nI w)) (fun G' => gOff syZ G G' ∧ mSy G' (l ++ [w])) := by
  unfold f_X11_says
  rw [h.1, gIn_t (by omega) hl, gck_t, nI_clamp (by omega)]
  simp only [gLet_e]
  rw [gS_ne (show ¬ (0 = 13 ∧ 27 = l.length) by omega), h.1, nI_1]
  refine ⟨_, rfl, (gOff.rf.S1 (by simp [syZ])).S1 (by simp [syZ]), ?_, ?_⟩
  · rw [gS_at, List.length_append, List.length_singleton]
  · have := (h.2.push (v := w)).S1 (a := 0) (i := 27) (v := nI (l.length + 1)) (Or.inl (by decide))
    rwa [Nat.zero_add] at this
theorem saysSmall_ok {G : gP} {l : List Nat} (h : mSy G l) (hl : l.length ≤ 5) {v : Nat} (hv : v < 1000) : Ok (f_X11_saysSmall G (nI v)) (fun G' => gOff syZ G G' ∧ mSy G' (l ++ smL v)) := by
  unfold f_X11_saysSmall
  rw [smL_eq hv]
  have c1 : (nI v < 100) ↔ v < 100 := nI_ltI (b := 100) (by omega) (by decide)
  have d1 : nI v / 100 = nI (v / 100) := pk_div (d := 100) (by omega) (by decide) (by decide)
  have r1 : gRem (nI v) 100 = nI (v % 100) := gRem_nI (d := 100) (by omega) (by decide) (by decide)
  have c2 : (nI (v % 100) ≤ 19) ↔ v % 100 ≤ 19 := nI_leI (b := 19) (by omega) (by decide)
  have d2 : nI (v % 100) / 10 = nI (v % 100 / 10) := pk_div (d := 10) (by omega) (by decide) (by decide)
  have r2 : gRem (nI (v % 100)) 10 = nI (v % 100 % 10) := gRem_nI (d := 10) (by omega) (by decide) (by decide)
  have a2 : (18 : Int32) + nI (v % 100 / 10) = nI (18 + v % 100 / 10) := nI_add 18 _
  refine Ok.bind (Q := fun G1 => gOff syZ G G1 ∧ mSy G1 (l ++ (if v < 100 then [] else [v / 100, 28]))) ?_ (fun G1 h1 => ?_)
  · by_cases h1 : v < 100
    · rw [if_pos (c1.mpr h1), if_pos h1, List.append_nil]
      exact ⟨_, rfl, gOff.rf, h⟩
    · rw [if_neg (fun z => h1 (c1.mp z)), if_neg h1, d1]
      refine Ok.bind (says_ok h (by omega) (v / 100)) (fun G1 h2 => ?_)
      refine Ok.bind (says_ok (w := 28) h2.2 (by rw [List.length_append, List.length_singleton]; omega)) (fun G2 h3 => ⟨_, rfl, h2.1.tr h3.1, ?_⟩)
      have := h3.2
      rw [List.append_assoc] at this
      exact this
  have hl1 : (l ++ (if v < 100 then [] else [v / 100, 28])).length ≤ 7 := by
    rw [List.length_append]; split <;> simp <;> omega
  rw [← List.append_assoc]
  generalize l ++ (if v < 100 then [] else [v / 100, 28]) = l1 at *
  simp only [gLet_e]
  rw [r1]
  refine Ok.bind (Q := fun G2 => gOff syZ G G2 ∧ mSy G2 (l1 ++ (if v % 100 ≤ 19 then [] else [18 + v % 100 / 10]))) ?_ (fun G2 h2 => ?_)
  · by_cases h2 : v % 100 ≤ 19
    · rw [if_pos (c2.mpr h2), if_pos h2, List.append_nil]
      exact ⟨_, rfl, h1⟩
    · rw [if_neg (fun z => h2 (c2.mp z)), if_neg h2, d2, a2, obs]
      refine (says_ok h1.2 (by omega) _).imp ?_
      rintro G2 ⟨a, b⟩
      exact ⟨h1.1.tr a, b⟩
  have hl2 : (l1 ++ (if v % 100 ≤ 19 then [] else [18 + v % 100 / 10])).length ≤ 8 := by
    rw [List.length_append]; split <;> simp <;> omega
  rw [← List.append_assoc]
  generalize l1 ++ (if v % 100 ≤ 19 then [] else [18 + v % 100 / 10]) = l2 at *
  have e9 : (if nI (v % 100) ≤ 19 then nI (v % 100) else gRem (nI (v % 100)) 10) = nI (if v % 100 ≤ 19 then v % 100 else v % 100 % 10) := by
    rw [r2]
    by_cases h3 : v % 100 ≤ 19
    · rw [if_pos (c2.mpr h3), if_pos h3]
    · rw [if_neg (fun z => h3 (c2.mp z)), if_neg h3]
  rw [e9]
  have hx : (if v % 100 ≤ 19 then v % 100 else v % 100 % 10) < 2 ^ 31 := by split <;> omega
  generalize (if v % 100 ≤ 19 then v % 100 else v % 100 % 10) = x at *
  by_cases h3 : x = 0
  · rw [if_pos ((nI_le0 hx).mpr h3), if_pos h3, List.append_nil]
    exact ⟨_, rfl, h2⟩
  · rw [if_neg (fun z => h3 ((nI_le0 hx).mp z)), if_neg h3, obs]
    refine (says_ok h2.2 (by omega) x).imp ?_
    rintro G3 ⟨a, b⟩
    exact ⟨h2.1.tr a, b⟩
theorem clears_ok {G : gP} {L : Lt} (h : mRow G 1 0 L) : Ok (f_X11_clears G) (fun G' => gOff nowZ G G' ∧ mRow G' 1 0 (Lt.of (0) (L.kind) (L.slack) (L.draw) (L.m) (L.w) (L.c))) := by
  unfold f_X11_clears
  simp only [gLet_e, obs]
  have hl : Ok (gloop (f_X11_clears_b9) gFu (gS1 G 1 0 0, (4 : Int32))) (fun G' => gOff (fun k j => decide (k = 1 ∧ 4 ≤ j)) (gS1 G 1 0 0) G') := by
    refine Ok.up (fun i s => s.2 = nI (4 + i) ∧ gOff (fun k j => decide (k = 1 ∧ 4 ≤ j)) (gS1 G 1 0 0) s.1) 72 (by decide) ?_ ?_ ⟨rfl, gOff.rf⟩
    · rintro i ⟨G1, x⟩ hi ⟨hx, hO⟩
      simp only at hx hO
      subst hx
      unfold f_X11_clears_b9
      simp only
      rw [if_neg (show ¬ (76 : Int32) ≤ nI (4 + i) from nI_ge (b := 76) (by omega) (by decide)), gIn_t (by omega) (by omega), gck_t, nI_clamp (by omega)]
      exact ⟨_, rfl, nI_1 (4 + i), hO.S1 (by simp)⟩
    · rintro ⟨G1, x⟩ ⟨hx, hO⟩
      simp only at hx hO
      subst hx
      unfold f_X11_clears_b9
      simp only
      rw [if_pos (show (76 : Int32) ≤ nI (4 + 72) by decide)]
      exact ⟨_, rfl, hO⟩
  refine hl.imp ?_
  intro G' hO
  refine ⟨(gOff.rf.S1 rfl).tr (hO.w (fun k j z => by simp [nowZ] at z ⊢; omega)), mRow.of ?_ ?_ ?_ ?_ (fun i hi => absurd hi (Nat.not_lt_zero i))⟩
  · rw [(hO 1 0 (by simp)).1, gS_at]; rfl
  · rw [(hO 1 1 (by simp)).1, gS_ne (by decide)]; exact h.2.1
  · rw [(hO 1 2 (by simp)).1, gS_ne (by decide)]; exact h.2.2.1
  · rw [(hO 1 3 (by simp)).1, gS_ne (by decide)]; exact h.2.2.2.1
/-- nothing may be undone -/
theorem mSt.past0 {S : St} {G : gP} (h : mSt S G) : mSt (St.of (S.now) ([]) (S.kept) (S.tape) (S.sh)) (gS1 G 0 29 0) := by
  have hO : gOff (fun k j => decide (k = 0 ∧ j = 29)) G (gS1 G 0 29 0) := gOff.rf.S1 (by simp)
  refine ⟨h.now.off hO (fun _ => rfl), gS_at, fun i L hi => ?_, ?_, ?_, ?_, ?_⟩
  · have hi' : ([] : List Lt)[i]? = some L := hi
    cases hi'
  · have hk := h.kept
    show match S.kept with | none => _ | some (L, p) => _
    cases hS : S.kept with
    | none => rw [hS] at hk; simp only at hk ⊢; rw [(hO 0 32 rfl).1]; exact hk
    | some q =>
      obtain ⟨L, p⟩ := q
      rw [hS] at hk
      exact ⟨hk.1.off hO (fun _ => rfl), by rw [(hO 0 32 rfl).1]; exact hk.2.1, fun i L hi => (hk.2.2 i L hi).off hO (fun _ => rfl)⟩
  · rw [(hO 0 23 rfl).1]; exact h.tp
  · intro j v hj; rw [(hO 11 _ rfl).1]; exact h.tape j v hj
  · intro s hs
    have := h.sh s hs
    show match S.sh s with | none => _ | some (k, l) => _
    cases hS : S.sh s with
    | none => rw [hS] at this; simp only at this ⊢; rw [(hO 17 s rfl).1]; exact this
    | some q =>
      obtain ⟨k, l⟩ := q
      rw [hS] at this
      exact ⟨by rw [(hO 17 s rfl).1]; exact this.1, by rw [(hO 18 s rfl).1]; exact this.2.1, fun i v hi => by rw [(hO 19 _ rfl).2.1]; exact this.2.2 i v hi⟩
theorem say_ok {S : St} {G : gP} (hW : S.Wf) (h : mSt S G) (a : Int32) : Ok (f_X11_say G a) (mA (sSay S a)) := by
  unfold f_X11_say sSay
  rw [in_rg a (lo := 1) (hi := 1000000) rfl rfl]
  cases ha : rg a 1 1000000 with
  | none => exact ⟨_, rfl, h, rfl⟩
  | some v =>
    obtain ⟨hv1, hv, rfl⟩ := rg_some ha
    simp only [Option.isSome_some, if_true]
    rw [if_neg (by decide)]
    simp only [gLet_e]
    have h0 : mSy (gS1 G 0 27 0) [] := ⟨gS_at, aL.nil⟩
    have hO0 : gOff syZ G (gS1 G 0 27 0) := gOff.rf.S1 (by simp [syZ])
    generalize gS1 G 0 27 0 = G0 at *
    have c1 : (nI v < 1000) ↔ v < 1000 := nI_ltI (b := 1000) (by omega) (by decide)
    have d1 : nI v / 1000 = nI (v / 1000) := pk_div (d := 1000) (by omega) (by decide) (by decide)
    have r1 : gRem (nI v) 1000 = nI (v % 1000) := gRem_nI (d := 1000) (by omega) (by decide) (by decide)
    refine Ok.bind (Q := fun G1 => gOff syZ G G1 ∧ mSy G1 (smL (v / 1000) ++ nz [if v / 1000 = 0 then 0 else 29])) ?_ (fun G1 h1 => ?_)
    · by_cases hlt : v < 1000
      · rw [if_pos (c1.mpr hlt), show v / 1000 = 0 by omega]
        exact ⟨_, rfl, hO0, h0⟩
      · rw [if_neg (fun z => hlt (c1.mp z)), d1]
        refine Ok.bind (saysSmall_ok h0 (by simp) (show v / 1000 < 1000 by omega)) (fun G1 h1 => ?_)
        rw [obs]
        have hl := smL_len (v / 1000)
        rw [List.nil_append] at h1
        refine (says_ok (w := 29) h1.2 (by omega)).imp ?_
        rintro G2 ⟨a, b⟩
        refine ⟨(hO0.tr h1.1).tr a, ?_⟩
        rw [if_neg (show ¬ v / 1000 = 0 by omega)]
        exact b
    rw [r1]
    have hl5 : (smL (v / 1000) ++ nz [if v / 1000 = 0 then 0 else 29]).length ≤ 5 := by
      rw [List.length_append]
      have h1 := smL_len (v / 1000)
      have h3 : (nz [if v / 1000 = 0 then 0 else 29]).length ≤ 1 := Nat.le_trans (List.length_filter_le _ _) (by simp)
      omega
    refine Ok.bind (saysSmall_ok h1.2 hl5 (show v % 1000 < 1000 by omega)) (fun G2 h2 => ?_)
    have hsy : mSy G2 (sayL v) := h2.2
    have hO2 : gOff syZ G G2 := h1.1.tr h2.1
    have h9 := sayL_len v
    have hlt := sayL_lt (v := v) hv
    have hm2 : mSt S G2 := h.now' hO2 (fun k j hk => by simp [syZ]; omega) (h.now.off hO2 (fun j => by simp [syZ]))
    generalize sayL v = ws at *
    rw [hsy.1]
    by_cases h8 : 8 < ws.length
    · rw [if_neg (show ¬ nI ws.length ≤ 8 from nI_ge (a := 8) h8 (by omega)), if_pos h8]
      exact ⟨_, rfl, hm2, rfl⟩
    · rw [if_pos (show nI ws.length ≤ 8 from nI_le (b := 8) (by omega) (by decide)), if_neg h8]
      refine Ok.bind (clears_ok hm2.now) (fun G3 h3 => ?_)
      refine Ok.bind (Q := fun G4 => gOff nowZ G3 G4 ∧ mRow G4 1 0 (S.now.sayF ws)) ?_ (fun G4 h4 => ?_)
      · refine Ok.up (fun i s => s.2 = nI i ∧ gOff nowZ G3 s.1 ∧ mRow s.1 1 0 (S.now.sayF (ws.take i))) ws.length (by omega) ?_ ?_ ⟨rfl, gOff.rf, h3.2⟩
        · rintro i ⟨G4, x⟩ hi ⟨hx, hO, hr⟩
          simp only at hx hO hr
          subst hx
          unfold f_X11_say_b68
          simp only
          have e27 : gS G4 0 27 = nI ws.length := by rw [(hO 0 27 (by simp [nowZ])).1, (h3.1 0 27 (by simp [nowZ])).1]; exact hsy.1
          have e13 : gS G4 13 i = nI ws[i] := by
            rw [(hO 13 i (by simp [nowZ])).1, (h3.1 13 i (by simp [nowZ])).1]
            have := hsy.2 i ws[i] (List.getElem?_eq_getElem hi)
            rwa [Nat.zero_add] at this
          rw [e27, if_neg (nI_ge hi (by omega)), gIn_t (by omega) (by omega), gck_t, nI_clamp (by omega), e13]
          have hnt : (S.now.sayF (ws.take i)).n = i := by rw [S.now.sayF_len, List.length_take]; omega
          have hwf : (S.now.sayF (ws.take i)).Wf := hW.now.sayW (by rw [List.length_take]; omega) (fun w hw => hlt w (List.mem_of_mem_take hw))
          refine Ok.bind (hears_ok (w := ws[i]) (c := 0) hwf (by rw [hnt]; omega) hr) (fun G5 h5 => ⟨_, rfl, nI_1 i, hO.tr h5.1, ?_⟩)
          have : ws.take (i + 1) = ws.take i ++ [ws[i]] := by rw [List.take_add_one, List.getElem?_eq_getElem hi]; rfl
          rw [this, S.now.sayF_s]
          exact h5.2.1
        · rintro ⟨G4, x⟩ ⟨hx, hO, hr⟩
          simp only at hx hO hr
          subst hx
          unfold f_X11_say_b68
          simp only
          have e27 : gS G4 0 27 = nI ws.length := by rw [(hO 0 27 (by simp [nowZ])).1, (h3.1 0 27 (by simp [nowZ])).1]; exact hsy.1
          rw [e27, if_pos (nI_le (Nat.le_refl _) (by omega))]
          rw [List.take_length] at hr
          exact ⟨_, rfl, hO, hr⟩
      · have e27 : gS G4 0 27 = nI ws.length := by rw [(h4.1 0 27 (by simp [nowZ])).1, (h3.1 0 27 (by simp [nowZ])).1]; exact hsy.1
        have hm4 : mSt (St.of (S.now.sayF ws) (S.past) (S.kept) (S.tape) (S.sh)) G4 := hm2.now' (h3.1.tr h4.1) (fun _ _ hk => nowZ_k hk) h4.2
        refine ⟨_, rfl, hm4.past0, ?_⟩
        simp only
        rw [gS_ne (by decide)]; exact e27
end
section
/-! the component says a number -/
theorem come_ok {i : Nat} {G : gP} {n : Nat} (hi : i < 19) (hg : xSg G (32 + 26 * i)) (hn : gS G (32 + 26 * i) 1 = nI n) (h8 : n < 8) : Ok (f_X6_come G (32 + 26 * i)) (fun q => q.2 = sgO G (32 + 26 * i) n ∧ rSame G q.1 ∧ gOff (fun k j => decide ((k = sgO G (32 + 26 * i) n ∧ j = 2) ∨ (k = 32 + 26 * i ∧ j = 1))) G q.1 ∧ gS q.1 (32 + 26 * i) 1 = nI (n + 1) ∧ gS q.1 (sgO G (32 + 26 * i) n) 2 = nI 0) := by
  unfold f_X6_come
  rw [hn, gIn_t (by omega) h8, gck_t, nI_clamp (by omega), hg.ref hi h8, obind_some]
  have rs := hg.rng (j := n) h8
  simp only [gLet_e]
  rw [gS_ne (by omega), hn, nI_1]
  refine ⟨_, rfl, rfl, (rSame.rf.S1).S1, (gOff.rf.S1 (by simp)).S1 (by simp), gS_at, ?_⟩
  rw [gS_ne (by omega), gS_at]; rfl
/-- a lattice with a slot more -/
theorem xLt.more {G G' : gP} {L : Lt} (hL : L.Wf) (h8 : L.n < 8) (h : xLt G 32 L) (hg : xSg G 32) {w c : Nat} {Z : Nat → Nat → Bool} (hO : gOff Z G G') (hz : ∀ k j, 32 ≤ k → k < 58 → ¬ (sgO G 32 L.n ≤ k ∧ k ≤ sgO G 32 L.n + 2) → ¬ (k = 32 ∧ j = 1) → Z k j = false) (hr : rSame G G') (h1 : gS G' 32 1 = nI (L.n + 1)) (hs : xSlt G' (sgO G 32 L.n) 1 (fun _ => w) (fun _ => c)) : xLt G' 32 (L.more w c) := by
  have rn := hg.rng (j := L.n) (by omega)
  refine ⟨h1, ?_, ?_, ?_, fun i hi => ?_⟩
  · rw [(hO 32 2 (hz _ _ (by omega) (by omega) (by omega) (by omega))).1]; exact h.2.1
  · rw [(hO 32 3 (hz _ _ (by omega) (by omega) (by omega) (by omega))).1]; exact h.2.2.1
  · rw [(hO 32 4 (hz _ _ (by omega) (by omega) (by omega) (by omega))).1]; exact h.2.2.2.1
  · rw [hr.sg]
    unfold Lt.more Lt.put
    simp only [Lt.mk_n, Lt.mk_kind, Lt.mk_slack, Lt.mk_draw, Lt.mk_m, Lt.mk_w, Lt.mk_c, St.mk_now, St.mk_past, St.mk_kept, St.mk_tape, St.mk_sh]
    have hi' : i < L.n + 1 := hi
    by_cases e : i = L.n
    · subst e
      simp only [if_true]
      exact hs
    · simp only [e, if_false]
      have ri := hg.rng (j := i) (by omega)
      have hd : sgO G 32 i ≠ sgO G 32 L.n := fun z => e (hg.2 i L.n (by omega) (by omega) z)
      exact (h.2.2.2.2 i (by omega)).off hO (fun k j a b => hz k j (by omega) (by omega) (by omega) (by omega))
def syX (k _ : Nat) : Bool := decide ((32 ≤ k ∧ k < 58) ∨ (535 ≤ k ∧ k ≤ 537))
theorem xsayL_ok {G : gP} {L : Lt} {ws : List Nat} (hL : L.Wf) (hN : xNow G L) (hK : xRk G) (h9 : ws.length = 9) (hw : ∀ w ∈ ws, w < 32) (h8 : (nz ws).length ≤ 8) (ha : aL G 538 0 ws) : Ok (f_X6_say G) (fun G' => gOff syX G G' ∧ rSame G G' ∧ xLt G' 32 (L.sayF (nz ws))) := by
  unfold f_X6_say f_X6_begin
  simp only [gLet_e, obind_some, obs]
  have hO0 : gOff (fun k j => decide (k = 32 ∧ j = 1)) G (gS1 G 32 1 0) := gOff.rf.S1 (by simp)
  have hr0 : rSame G (gS1 G 32 1 0) := rSame.rf.S1
  have hx0 : xLt (gS1 G 32 1 0) 32 (L.sayF (nz (ws.take 0))) := by
    refine ⟨gS_at, ?_, ?_, ?_, fun i hi => absurd hi (Nat.not_lt_zero i)⟩
    · rw [gS_ne (by decide)]; exact hN.1.2.1
    · rw [gS_ne (by decide)]; exact hN.1.2.2.1
    · rw [gS_ne (by decide)]; exact hN.1.2.2.2.1
  refine Ok.loop (fun n s => ∃ i, n + i = 9 ∧ s.2 = nI i ∧ gOff syX G s.1 ∧ rSame G s.1 ∧ xLt s.1 32 (L.sayF (nz (ws.take i)))) ?_ 10 9 _ (by omega) ⟨0, by omega, rfl, hO0.w (fun k j z => by simp [syX] at z ⊢; omega), hr0, hx0⟩
  rintro n ⟨G1, x⟩ ⟨i, hni, hx, hO, hr, hl⟩
  simp only at hx hO hr hl
  subst hx
  unfold f_X6_say_b12
  simp only
  cases n with
  | zero =>
    have e : i = 9 := by omega
    subst e
    rw [if_pos (show (9 : Int32) ≤ nI 9 by decide)]
    rw [← h9, List.take_length] at hl
    exact ⟨_, rfl, hO, hr, hl⟩
  | succ n =>
    have hi : i < ws.length := by omega
    have e538 : gS G1 538 i = nI ws[i] := by
      rw [(hO 538 i (by simp [syX])).1]
      have := ha i ws[i] (List.getElem?_eq_getElem hi)
      rwa [Nat.zero_add] at this
    have hwi := hw ws[i] (List.getElem_mem hi)
    have htk : ws.take (i + 1) = ws.take i ++ [ws[i]] := by rw [List.take_add_one, List.getElem?_eq_getElem hi]; rfl
    rw [if_neg (show ¬ (9 : Int32) ≤ nI i from nI_ge (b := 9) (by omega) (by decide)), gIn_t (by omega) (by omega), gck_t, nI_clamp (by omega), e538]
    simp only [gLet_e]
    by_cases h0 : ws[i] = 0
    · rw [if_pos ((nI_le0 (by omega)).mpr h0), nI_1]
      refine ⟨_, rfl, n, by omega, i + 1, by omega, rfl, hO, hr, ?_⟩
      simp only
      rw [htk, nz_app, h0]
      show xLt G1 32 (L.sayF (nz (ws.take i) ++ []))
      rw [List.append_nil]; exact hl
    · rw [if_neg (fun z => h0 ((nI_le0 (by omega)).mp z))]
      have hnz : nz (ws.take (i + 1)) = nz (ws.take i) ++ [ws[i]] := by
        rw [htk, nz_app]
        show _ ++ nz [ws[i]] = _
        rw [nz_c, if_neg h0]; rfl
      have hlen : (nz (ws.take i)).length < 8 := by
        have h1 : (nz (ws.take (i + 1))).length ≤ (nz ws).length := by
          have : ws = ws.take (i + 1) ++ ws.drop (i + 1) := (List.take_append_drop _ _).symm
          have h2 : nz ws = nz (ws.take (i + 1)) ++ nz (ws.drop (i + 1)) := by rw [← nz_app, ← this]
          rw [h2, List.length_append]; omega
        rw [hnz, List.length_append, List.length_singleton] at h1
        omega
      have hwf : (L.sayF (nz (ws.take i))).Wf := hL.sayW (by omega) (nz_lt (fun w hw' => hw w (List.mem_of_mem_take hw')))
      have hnn : (L.sayF (nz (ws.take i))).n = (nz (ws.take i)).length := L.sayF_len _
      have hg1 : xSg G1 32 := hN.2.same hr
      refine Ok.bind (come_ok (i := 0) (by omega) hg1 hl.1 (by omega)) (fun q hq => ?_)
      obtain ⟨G2, s⟩ := q
      obtain ⟨rfl, hr2, hO2, h21, h22⟩ := hq
      simp only at hr2 hO2 h21 h22 ⊢
      have rs := hg1.rng (j := (L.sayF (nz (ws.take i))).n) (by omega)
      have hK2 : xRk G2 := hK.same (hr.tr hr2)
      rw [gDec_t hK2, gck_t]
      have hsrc : xSlt (xMk7 G2 (nI ws[i])) 535 1 (fun _ => ws[i]) (fun _ => 0) := by
        unfold xMk7
        refine ⟨?_, fun j hj => ?_⟩
        · rw [gS_Sa, if_pos rfl, if_pos rfl]; rfl
        · have : j = 0 := by omega
          subst this
          refine ⟨?_, ?_⟩
          · rw [gS_Sa, if_neg (by decide), gS_Sa, if_neg (by decide), gS_Sa, if_pos rfl]; rfl
          · rw [gS_Sa, if_neg (by decide), gS_Sa, if_pos rfl]; rfl
      have hO3 : gOff (fun k _ => decide (535 ≤ k ∧ k ≤ 537)) G2 (xMk7 G2 (nI ws[i])) := by
        unfold xMk7
        exact ((gOff.rf.Sa (fun j => by simp)).Sa (fun j => by simp)).Sa (fun j => by simp)
      have hr3 : rSame G2 (xMk7 G2 (nI ws[i])) := by unfold xMk7; exact ((rSame.rf.Sa).Sa).Sa
      generalize xMk7 G2 (nI ws[i]) = G3 at *
      refine Ok.bind (slotTake_ok (s := sgO G1 32 (L.sayF (nz (ws.take i))).n) hsrc (by omega) (by omega)) (fun G4 h4 => ?_)
      obtain ⟨hO4, hr4, hs4⟩ := h4
      have hr14 : rSame G1 G4 := (hr2.tr hr3).tr hr4
      refine ⟨_, rfl, n, by omega, i + 1, by omega, nI_1 i, ?_, hr.tr hr14, ?_⟩
      · refine ((hO.tr (hO2.w (fun k j z => ?_))).tr (hO3.w (fun k j z => ?_))).tr (hO4.w (fun k j z => ?_))
        · simp [syX] at z ⊢; omega
        · simp [syX] at z ⊢; omega
        · simp [syX, sZ] at z ⊢; omega
      · simp only
        rw [hnz, L.sayF_s]
        refine xLt.more hwf (by omega) hl hg1 (Z := fun k j => decide ((sgO G1 32 (L.sayF (nz (ws.take i))).n ≤ k ∧ k ≤ sgO G1 32 (L.sayF (nz (ws.take i))).n + 2) ∨ (k = 32 ∧ j = 1) ∨ (535 ≤ k ∧ k ≤ 537))) (((hO2.w (fun k j z => ?_)).tr (hO3.w (fun k j z => ?_))).tr (hO4.w (fun k j z => ?_))) (fun k j a b c d => ?_) hr14 ?_ hs4
        · simp at z ⊢; omega
        · simp at z ⊢; omega
        · simp [sZ] at z ⊢; omega
        · simp; omega
        · rw [(hO4 32 1 (by simp [sZ]; omega)).1, (hO3 32 1 (by simp)).1]; exact h21
theorem xSt.past0 {S : St} {T : Nat → Nat × Nat} {G : gP} (hW : S.Wf) (h : xSt S T G) : xSt (St.of (S.now) ([]) (S.kept) (S.tape) (S.sh)) T (gS1 G 0 16 0) := by
  have hO : gOff (fun k j => decide (k = 0 ∧ j = 16)) G (gS1 G 0 16 0) := gOff.rf.S1 (by simp)
  have hr : rSame G (gS1 G 0 16 0) := rSame.rf.S1
  have hlt : ∀ i L, i < 19 → L.n ≤ 8 → xLt G (32 + 26 * i) L → xLt (gS1 G 0 16 0) (32 + 26 * i) L := fun i L hi h8 hx => hx.off h8 (h.sg i hi) hO hr (fun k j a b => by simp; omega)
  refine ⟨h.rk.same hr, fun i hi => (h.sg i hi).same hr, h.pa.same hr, fun j hj => by rw [hr]; exact h.ka j hj, hlt 0 _ (by omega) hW.now.n8 h.now, gS_at, fun i L hi => ?_, ?_, by rw [(hO 0 11 (by simp)).1]; exact h.tp, fun j v hj => by rw [(hO 9 _ (by simp)).1]; exact h.tape j v hj, fun s hs => (h.sh s hs).off hO (hr _ _) (fun j => by simp)⟩
  · have hi' : ([] : List Lt)[i]? = some L := hi
    cases hi'
  · have hkk : xKp G S.kept := h.kept
    show xKp _ S.kept
    cases hSk : S.kept with
    | none => rw [hSk] at hkk; show gS _ 0 20 = 0; rw [(hO 0 20 (by simp)).1]; exact hkk
    | some z =>
      obtain ⟨Lk, pk⟩ := z
      rw [hSk] at hkk
      obtain ⟨k1, k2, k3, k4⟩ := hkk
      obtain ⟨w1, w2, w3⟩ := hW.kept Lk pk hSk
      refine ⟨by rw [(hO 0 20 (by simp)).1]; exact k1, by rw [(hO 0 19 (by simp)).1]; exact k2, hlt 2 Lk (by omega) w1.n8 k3, fun i L' hi => ?_⟩
      have hil : i < pk.length := (List.getElem?_eq_some_iff.mp hi).1
      exact hlt (11 + i) L' (by omega) (w2 L' (List.mem_of_getElem? hi)).n8 (k4 i L' hi)
theorem St.Wf.nowp {S : St} (h : S.Wf) {L : Lt} (hL : L.Wf) : ((St.of (L) (S.past) (S.kept) (S.tape) (S.sh)) : St).Wf := ⟨hL, h.past, h.p8, h.kept, h.tape, h.sh⟩
theorem count9_ok {G : gP} {ws : List Nat} (h9 : ws.length = 9) (hw : ∀ w ∈ ws, w < 32) (ha : aL G 538 0 ws) : Ok (f_X0_countWords G) (fun x => x = nI (nz ws).length) := by
  unfold f_X0_countWords
  rw [obs]
  have hfin : ws = ws.take 9 := by rw [← h9, List.take_length]
  have hg : (fun x : Int32 => x = nI (nz ws).length) = (fun x : Int32 => x = nI (nz (ws.take 9)).length) := by rw [← hfin]
  rw [hg]
  refine Ok.up (fun i s => s = (nI (nz (ws.take i)).length, nI i)) 9 (by decide) ?_ ?_ rfl
  · rintro i s hi rfl
    unfold f_X0_countWords_b10
    simp only
    have hil : i < ws.length := by omega
    have e538 : gS G 538 i = nI ws[i] := by
      have := ha i ws[i] (List.getElem?_eq_getElem hil)
      rwa [Nat.zero_add] at this
    have hwi := hw ws[i] (List.getElem_mem hil)
    have htk : ws.take (i + 1) = ws.take i ++ [ws[i]] := by rw [List.take_add_one, List.getElem?_eq_getElem hil]; rfl
    rw [if_neg (show ¬ (9 : Int32) ≤ nI i from nI_ge (b := 9) (by omega) (by decide)), gIn_t (by omega) (by omega), gck_t, nI_clamp (by omega), e538]
    simp only [gLet_e]
    refine ⟨_, rfl, ?_⟩
    simp only
    rw [htk, nz_app, List.length_append, nI_1]
    by_cases h0 : ws[i] = 0
    · rw [if_pos ((nI_le0 (by omega)).mpr h0), h0]
      show (nI _ + nI 0, _) = _
      rw [nI_add]; rfl
    · rw [if_neg (fun z => h0 ((nI_le0 (by omega)).mp z)), nz_c, if_neg h0]
      show (nI _ + nI 1, _) = _
      rw [nI_add]; rfl
  · rintro s rfl
    unfold f_X0_countWords_b10
    simp only
    rw [if_pos (show (9 : Int32) ≤ nI 9 by decide)]
    exact ⟨_, rfl, rfl⟩
theorem xSt.say {S : St} {T : Nat → Nat × Nat} {G G' : gP} {L : Lt} (hW : S.Wf) (h : xSt S T G) (hO : gOff (fun k _ => decide ((32 ≤ k ∧ k < 58) ∨ (526 ≤ k ∧ k < 539))) G G') (hr : rSame G G') (hn : xLt G' 32 L) : xSt (St.of (L) (S.past) (S.kept) (S.tape) (S.sh)) T G' :=
  h.frame hW hO (fun k j _ => hr k j) ((h.sg 0 (by omega)).same hr) (h.rk.same hr) (fun k j hk => by simp; omega) hn
theorem sayL_9 (v : Nat) : sayL v = nz [v / 1000 / 100, if v / 1000 < 100 then 0 else 28, tW (v / 1000), uW (v / 1000), if v / 1000 = 0 then 0 else 29, v % 1000 / 100, if v % 1000 < 100 then 0 else 28, tW (v % 1000), uW (v % 1000)] := by
  unfold sayL smL
  rw [← nz_app, ← nz_app]
  rfl
theorem tensI {v : Nat} (h : v < 1000) : f_X0_tensWord (nI v) = nI (tW v) := by
  unfold f_X0_tensWord tW
  rw [show (100 : Int32) = nI 100 from rfl, gRem_nI (by omega) (by decide) (by decide), show (10 : Int32) = nI 10 from rfl, pk_div (by omega) (by decide) (by decide), gRem_nI (by omega) (by decide) (by decide)]
  by_cases h1 : v % 100 < 20
  · rw [if_neg (show ¬ (20 : Int32) ≤ nI (v % 100) from nI_ge (b := 20) h1 (by decide)), if_pos h1]
  · rw [if_pos (show (20 : Int32) ≤ nI (v % 100) from nI_le (a := 20) (by omega) (by omega)), if_neg h1]
    exact nI_add _ 18
theorem unitI {v : Nat} (h : v < 1000) : f_X0_unitWord (nI v) = nI (uW v) := by
  unfold f_X0_unitWord uW
  rw [show (100 : Int32) = nI 100 from rfl, gRem_nI (by omega) (by decide) (by decide), show (10 : Int32) = nI 10 from rfl, gRem_nI (by omega) (by decide) (by decide)]
  by_cases h1 : v % 100 < 20
  · rw [if_neg (show ¬ (20 : Int32) ≤ nI (v % 100) from nI_ge (b := 20) h1 (by decide)), if_pos h1]; rfl
  · rw [if_pos (show (20 : Int32) ≤ nI (v % 100) from nI_le (a := 20) (by omega) (by omega)), if_neg h1]
theorem hunI {v : Nat} (h : v < 1000) : (if (100 : Int32) ≤ nI v then (28 : Int32) else 0) = nI (if v < 100 then 0 else 28) := by
  by_cases h1 : v < 100
  · rw [if_neg (show ¬ (100 : Int32) ≤ nI v from nI_ge (b := 100) h1 (by decide)), if_pos h1]; rfl
  · rw [if_pos (show (100 : Int32) ≤ nI v from nI_le (a := 100) (by omega) (by omega)), if_neg h1]; rfl
theorem xsay_ok {S : St} {T : Nat → Nat × Nat} {G : gP} (hW : S.Wf) (h : xSt S T G) (a : Int32) : Ok (f_X0_say G a) (xA T (sSay S a)) := by
  unfold f_X0_say sSay
  rw [isIn_rg a (lo := 1) (hi := 1000000) rfl rfl]
  cases ha : rg a 1 1000000 with
  | none => exact ⟨_, rfl, h, rfl⟩
  | some v =>
    obtain ⟨hv1, hv, rfl⟩ := rg_some ha
    simp only [Option.isSome_some, if_true]
    rw [if_neg (by decide)]
    have d1 : nI v / 1000 = nI (v / 1000) := pk_div (d := 1000) (by omega) (by decide) (by decide)
    have r1 : gRem (nI v) 1000 = nI (v % 1000) := gRem_nI (d := 1000) (by omega) (by decide) (by decide)
    have ht : v / 1000 < 1000 := by omega
    have hs : v % 1000 < 1000 := by omega
    have e1 : nI (v / 1000) / 100 = nI (v / 1000 / 100) := pk_div (d := 100) (by omega) (by decide) (by decide)
    have e2 : nI (v % 1000) / 100 = nI (v % 1000 / 100) := pk_div (d := 100) (by omega) (by decide) (by decide)
    have e3 : (if nI (v / 1000) = 0 then (0 : Int32) else 29) = nI (if v / 1000 = 0 then 0 else 29) := by
      by_cases h0 : v / 1000 = 0
      · rw [if_pos ((nI_eq0 (by omega)).mpr h0), if_pos h0]; rfl
      · rw [if_neg (fun z => h0 ((nI_eq0 (by omega)).mp z)), if_neg h0]; rfl
    simp only [gLet_e]
    rw [d1, r1, gDec_t h.rk, gck_t, e1, e2, e3, tensI ht, tensI hs, unitI ht, unitI hs, hunI ht, hunI hs]
    have hlt := sayL_lt hv
    rw [sayL_9] at hlt ⊢
    -- nine words lie ready
    obtain ⟨ws, hws⟩ : ∃ ws, ws = [v / 1000 / 100, if v / 1000 < 100 then 0 else 28, tW (v / 1000), uW (v / 1000), if v / 1000 = 0 then 0 else 29, v % 1000 / 100, if v % 1000 < 100 then 0 else 28, tW (v % 1000), uW (v % 1000)] := ⟨_, rfl⟩
    rw [← hws] at hlt ⊢
    have h9 : ws.length = 9 := by rw [hws]; rfl
    have hw32 : ∀ w ∈ ws, w < 32 := by
      intro w hw
      by_cases h0 : w = 0
      · omega
      · exact hlt w (List.mem_filter.mpr ⟨hw, by simpa using h0⟩)
    have hOG : gOff (fun k _ => decide (k = 538)) G (gS1 (gS1 (gS1 (gS1 (gS1 (gS1 (gS1 (gS1 (gS1 (gSa G 538 fun _ => 0) 538 0 (nI (v / 1000 / 100))) 538 1 (nI (if v / 1000 < 100 then 0 else 28))) 538 2 (nI (tW (v / 1000)))) 538 3 (nI (uW (v / 1000)))) 538 4 (nI (if v / 1000 = 0 then 0 else 29))) 538 5 (nI (v % 1000 / 100))) 538 6 (nI (if v % 1000 < 100 then 0 else 28))) 538 7 (nI (tW (v % 1000)))) 538 8 (nI (uW (v % 1000)))) :=
      (((((((((gOff.rf.Sa (fun j => by simp)).S1 (by simp)).S1 (by simp)).S1 (by simp)).S1 (by simp)).S1 (by simp)).S1 (by simp)).S1 (by simp)).S1 (by simp)).S1 (by simp)
    have hrG : rSame G (gS1 (gS1 (gS1 (gS1 (gS1 (gS1 (gS1 (gS1 (gS1 (gSa G 538 fun _ => 0) 538 0 (nI (v / 1000 / 100))) 538 1 (nI (if v / 1000 < 100 then 0 else 28))) 538 2 (nI (tW (v / 1000)))) 538 3 (nI (uW (v / 1000)))) 538 4 (nI (if v / 1000 = 0 then 0 else 29))) 538 5 (nI (v % 1000 / 100))) 538 6 (nI (if v % 1000 < 100 then 0 else 28))) 538 7 (nI (tW (v % 1000)))) 538 8 (nI (uW (v % 1000)))) :=
      (((((((((rSame.rf.Sa).S1).S1).S1).S1).S1).S1).S1).S1).S1
    have haG : aL (gS1 (gS1 (gS1 (gS1 (gS1 (gS1 (gS1 (gS1 (gS1 (gSa G 538 fun _ => 0) 538 0 (nI (v / 1000 / 100))) 538 1 (nI (if v / 1000 < 100 then 0 else 28))) 538 2 (nI (tW (v / 1000)))) 538 3 (nI (uW (v / 1000)))) 538 4 (nI (if v / 1000 = 0 then 0 else 29))) 538 5 (nI (v % 1000 / 100))) 538 6 (nI (if v % 1000 < 100 then 0 else 28))) 538 7 (nI (tW (v % 1000)))) 538 8 (nI (uW (v % 1000)))) 538 0 ws := by
      rw [hws]
      have h0 : aL (gSa G 538 fun _ => 0) 538 0 [] := aL.nil
      exact ((((((((h0.push (v := _)).push (v := _)).push (v := _)).push (v := _)).push (v := _)).push (v := _)).push (v := _)).push (v := _)).push (v := _)
    generalize gS1 (gS1 (gS1 (gS1 (gS1 (gS1 (gS1 (gS1 (gS1 (gSa G 538 fun _ => 0) 538 0 (nI (v / 1000 / 100))) 538 1 (nI (if v / 1000 < 100 then 0 else 28))) 538 2 (nI (tW (v / 1000)))) 538 3 (nI (uW (v / 1000)))) 538 4 (nI (if v / 1000 = 0 then 0 else 29))) 538 5 (nI (v % 1000 / 100))) 538 6 (nI (if v % 1000 < 100 then 0 else 28))) 538 7 (nI (tW (v % 1000)))) 538 8 (nI (uW (v % 1000))) = G1 at *
    have hN1 : xNow G1 S.now := h.xn.q hW.now hOG hrG (fun k j a b => by simp; omega)
    have hx1 : xSt S T G1 := h.say hW (hOG.w (fun k j z => by simp at z ⊢; omega)) hrG hN1.1
    have hln : (nz ws).length ≤ 9 := Nat.le_trans (List.length_filter_le _ _) (by omega)
    refine Ok.bind (Q := xA T (if 8 < (nz ws).length then (S, -3) else ((St.of (S.now.sayF (nz ws)) ([]) (S.kept) (S.tape) (S.sh)), nI (nz ws).length))) ?_ (fun q hq => ⟨_, rfl, hq⟩)
    unfold f_X0_sayAll
    refine Ok.bind (count9_ok h9 hw32 haG) (fun x hx => ?_)
    subst hx
    by_cases h8 : 8 < (nz ws).length
    · rw [if_neg (show ¬ nI (nz ws).length ≤ 8 from nI_ge (a := 8) h8 (by omega)), if_pos h8]
      exact ⟨_, rfl, hx1, rfl⟩
    · rw [if_pos (show nI (nz ws).length ≤ 8 from nI_le (b := 8) (by omega) (by decide)), if_neg h8]
      refine Ok.bind (xsayL_ok hW.now hN1 hx1.rk h9 hw32 (by omega) haG) (fun G2 h2 => ?_)
      obtain ⟨hO2, hr2, hx2⟩ := h2
      have hL2 : (S.now.sayF (nz ws)).Wf := hW.now.sayW (by omega) (nz_lt hw32)
      have hs2 : xSt (St.of (S.now.sayF (nz ws)) (S.past) (S.kept) (S.tape) (S.sh)) T G2 := hx1.say hW (hO2.w (fun k j z => by simp [syX] at z ⊢; omega)) hr2 hx2
      have hs3 := hs2.past0 (hW.nowp hL2)
      refine ⟨_, rfl, hs3, ?_⟩
      show gS (gS1 G2 0 16 0) 32 1 = nI (nz ws).length
      rw [gS_ne (by decide), hx2.1, S.now.sayF_len]
end
section
/-! a tape read: as it is meant -/
def skp (t : List Nat) (p : Nat) : Nat := p + ((t.drop p).takeWhile (fun c => decide (c = 32))).length
def ltr (t : List Nat) (p : Nat) : Nat := t.getD p 0
def tok (t : List Nat) : Prop := t.length ≤ 120 ∧ ∀ v ∈ t, 32 ≤ v ∧ v ≤ 126
theorem ltr_at {t : List Nat} {p : Nat} (h : p < t.length) : t[p]? = some (ltr t p) := by
  unfold ltr
  rw [List.getD_eq_getElem?_getD, List.getElem?_eq_getElem h]; rfl
theorem ltr_ge {t : List Nat} {p : Nat} (h : t.length ≤ p) : ltr t p = 0 := by
  unfold ltr
  rw [List.getD_eq_getElem?_getD, List.getElem?_eq_none h]; rfl
theorem tok.lb {t : List Nat} (h : tok t) {p : Nat} (hp : p < t.length) : 32 ≤ ltr t p ∧ ltr t p ≤ 126 := h.2 _ (List.mem_of_getElem? (ltr_at hp))
theorem tok.lt {t : List Nat} (h : tok t) (p : Nat) : ltr t p ≤ 126 := by
  by_cases hp : p < t.length
  · exact (h.lb hp).2
  · rw [ltr_ge (by omega)]; omega
theorem tok.in {t : List Nat} (h : tok t) {p : Nat} (hl : ltr t p ≠ 0) : p < t.length := by
  apply Classical.byContradiction
  intro z
  exact hl (ltr_ge (by omega))
theorem skp_s {t : List Nat} {p : Nat} (hp : p < t.length) (h : ltr t p = 32) : skp t p = skp t (p + 1) := by
  unfold skp
  rw [List.drop_eq_getElem_cons hp]
  have e : t[p] = 32 := by have := ltr_at hp; rw [List.getElem?_eq_getElem hp] at this; exact (Option.some.inj this).trans h
  rw [List.takeWhile_cons_of_pos (by simp [e]), List.length_cons]
  omega
theorem skp_n {t : List Nat} {p : Nat} (h : ltr t p ≠ 32) : skp t p = p := by
  unfold skp
  by_cases hp : p < t.length
  · rw [List.drop_eq_getElem_cons hp]
    have e : t[p] ≠ 32 := by have := ltr_at hp; rw [List.getElem?_eq_getElem hp] at this; rw [Option.some.inj this]; exact h
    rw [List.takeWhile_cons_of_neg (by simp [e])]; rfl
  · rw [List.drop_eq_nil_of_le (by omega)]; rfl
theorem skp_all {t : List Nat} : ∀ n p, t.length - p = n → ltr t (skp t p) ≠ 32 ∧ (p ≤ t.length → skp t p ≤ t.length) := by
  intro n
  induction n with
  | zero =>
    intro p hp
    have hl : ltr t p = 0 := ltr_ge (by omega)
    rw [skp_n (by rw [hl]; decide), hl]
    exact ⟨by decide, fun h => h⟩
  | succ n ih =>
    intro p hp
    by_cases h : ltr t p = 32
    · rw [skp_s (by omega) h]
      have := ih (p + 1) (by omega)
      exact ⟨this.1, fun _ => this.2 (by omega)⟩
    · rw [skp_n h]; exact ⟨h, fun h => h⟩
theorem skp_ne (t : List Nat) (p : Nat) : ltr t (skp t p) ≠ 32 := (skp_all _ p rfl).1
theorem skp_le {t : List Nat} {p : Nat} (h : p ≤ t.length) : skp t p ≤ t.length := (skp_all _ p rfl).2 h
theorem skp_id (t : List Nat) (p : Nat) : skp t (skp t p) = skp t p := skp_n (skp_ne t p)
def ltW (c : Nat) : Option Nat := if c = 104 then some 28 else if c = 116 then some 29 else if c = 97 then some 30 else if c = 115 then some 31 else if c = 110 then some 0 else none
def isD (c : Nat) : Bool := decide (48 ≤ c ∧ c ≤ 57)
def wBy (v : Nat) : Option Nat := if 1 ≤ v ∧ v ≤ 19 then some v else if 20 ≤ v ∧ v % 10 = 0 then some (18 + v / 10) else none
def rdW (t : List Nat) (q : Nat) : Option (Nat × Nat) :=
  if isD (ltr t q) = true then (if isD (ltr t (q + 1)) = true then (wBy (10 * (ltr t q - 48) + (ltr t (q + 1) - 48))).map (fun w => (w, q + 2)) else (wBy (ltr t q - 48)).map (fun w => (w, q + 1)))
  else (ltW (ltr t q)).map (fun w => (w, q + 1))
/-- a candidate from a place on: a fault's place, or word, cost, where it goes on -/
def cnd (t : List Nat) (p : Nat) (ws : List Nat) : Nat ⊕ (Nat × Nat × Nat) := match rdW t (skp t p) with
  | none => .inl (skp t p)
  | some (w, q1) => if w ∈ ws then .inl (skp t p) else if ltr t (skp t q1) = 58 then (if isD (ltr t (skp t (skp t q1 + 1))) = true then .inr (w, ltr t (skp t (skp t q1 + 1)) - 48, skp t (skp t q1 + 1) + 1) else .inl (skp t (skp t q1 + 1))) else .inr (w, 0, skp t q1)
def slt (t : List Nat) : Nat → Nat → List (Nat × Nat) → Nat ⊕ (List (Nat × Nat) × Nat)
  | 0, p, acc => .inr (acc, p)
  | f + 1, p, acc => match cnd t p (acc.map Prod.fst) with
    | .inl e => .inl e
    | .inr (w, c, q) => if f = 0 then .inr (acc ++ [(w, c)], q) else if ltr t (skp t q) = 44 then slt t f (skp t q + 1) (acc ++ [(w, c)]) else .inr (acc ++ [(w, c)], skp t q)
def wds (t : List Nat) : Nat → Nat → List (List (Nat × Nat)) → Nat ⊕ (List (List (Nat × Nat)) × Nat)
  | 0, p, acc => .inr (acc, p)
  | f + 1, p, acc => match slt t 4 p [] with
    | .inl e => .inl e
    | .inr (s, q) => if f = 0 then .inr (acc ++ [s], q) else if ltr t (skp t q) = 59 then wds t f (skp t q + 1) (acc ++ [s]) else .inr (acc ++ [s], skp t q)
def prs (t : List Nat) : Nat ⊕ List (List (Nat × Nat)) := if skp t 0 = t.length then .inr [] else match wds t 8 (skp t 0) [] with
  | .inl e => .inl e
  | .inr (sl, q) => if skp t q < t.length then .inl (skp t q) else .inr sl
/-- slots laid as a lattice -/
def Lt.lay (L : Lt) (sl : List (List (Nat × Nat))) : Lt := Lt.of sl.length L.kind L.slack L.draw (fun k => (sl.getD k []).length) (fun k j => ((sl.getD k []).getD j (0, 0)).1) (fun k j => ((sl.getD k []).getD j (0, 0)).2)
def sWords (S : St) : St × Int32 := match prs S.tape with
  | .inl e => ((St.of (S.now) (S.past) (S.kept) ([]) (S.sh)), -20 - nI e)
  | .inr sl => ((St.of (S.now.lay sl) ([]) (S.kept) ([]) (S.sh)), nI sl.length)
/-- a slot that is read well -/
def slOk (s : List (Nat × Nat)) : Prop := 1 ≤ s.length ∧ s.length ≤ 4 ∧ (∀ x ∈ s, x.1 < 32 ∧ x.2 < 10) ∧ (s.map Prod.fst).Nodup
theorem wBy_lt {v w : Nat} (hv : v ≤ 99) (h : wBy v = some w) : w < 32 := by
  unfold wBy at h
  split at h
  · cases h; omega
  · split at h
    · cases h; omega
    · cases h
theorem ltW_lt {c w : Nat} (h : ltW c = some w) : w < 32 := by
  unfold ltW at h
  repeat' split at h
  all_goals first | (cases h; omega) | cases h
theorem isD_iff (c : Nat) : isD c = true ↔ 48 ≤ c ∧ c ≤ 57 := by unfold isD; simp
theorem rdW_lt {t : List Nat} (ht : tok t) {q w q' : Nat} (h : rdW t q = some (w, q')) : w < 32 ∧ q < q' ∧ q' ≤ t.length := by
  unfold rdW at h
  by_cases h1 : isD (ltr t q) = true
  · rw [if_pos h1] at h
    have b1 := (isD_iff _).mp h1
    have hq := ht.in (p := q) (by omega)
    by_cases h2 : isD (ltr t (q + 1)) = true
    · rw [if_pos h2] at h
      have b2 := (isD_iff _).mp h2
      have hq2 := ht.in (p := q + 1) (by omega)
      cases hw : wBy (10 * (ltr t q - 48) + (ltr t (q + 1) - 48)) with
      | none => rw [hw] at h; cases h
      | some x => rw [hw] at h; cases h; exact ⟨wBy_lt (by omega) hw, by omega, by omega⟩
    · rw [if_neg h2] at h
      cases hw : wBy (ltr t q - 48) with
      | none => rw [hw] at h; cases h
      | some x => rw [hw] at h; cases h; exact ⟨wBy_lt (by omega) hw, by omega, by omega⟩
  · rw [if_neg h1] at h
    cases hw : ltW (ltr t q) with
    | none => rw [hw] at h; cases h
    | some x =>
      rw [hw] at h; cases h
      have hq := ht.in (p := q) (fun z => by rw [z] at hw; cases hw)
      exact ⟨ltW_lt hw, by omega, by omega⟩
theorem cnd_ok {t : List Nat} (ht : tok t) {p : Nat} (hp : p ≤ t.length) (ws : List Nat) : match cnd t p ws with
    | .inl e => e ≤ t.length ∧ skp t e = e
    | .inr (w, c, q) => w < 32 ∧ c < 10 ∧ w ∉ ws ∧ q ≤ t.length := by
  unfold cnd
  cases hr : rdW t (skp t p) with
  | none => exact ⟨skp_le hp, skp_id t p⟩
  | some x =>
    obtain ⟨w, q1⟩ := x
    have h1 := rdW_lt ht hr
    simp only
    by_cases hm : w ∈ ws
    · rw [if_pos hm]; exact ⟨skp_le hp, skp_id t p⟩
    · rw [if_neg hm]
      have h2 := skp_le h1.2.2
      by_cases h58 : ltr t (skp t q1) = 58
      · rw [if_pos h58]
        have h3 := ht.in (p := skp t q1) (by omega)
        have h4 := skp_le (t := t) (p := skp t q1 + 1) (by omega)
        by_cases hd : isD (ltr t (skp t (skp t q1 + 1))) = true
        · rw [if_pos hd]
          have b := (isD_iff _).mp hd
          have h5 := ht.in (p := skp t (skp t q1 + 1)) (by omega)
          exact ⟨h1.1, by omega, hm, by omega⟩
        · rw [if_neg hd]; exact ⟨h4, skp_id _ _⟩
      · rw [if_neg h58]; exact ⟨h1.1, by omega, hm, h2⟩
theorem slt_ok {t : List Nat} (ht : tok t) : ∀ f p acc, p ≤ t.length → acc.length + f = 4 → 0 < f → (∀ x ∈ acc, x.1 < 32 ∧ x.2 < 10) → (acc.map Prod.fst).Nodup → match slt t f p acc with
    | .inl e => e ≤ t.length ∧ skp t e = e
    | .inr (s, q) => slOk s ∧ q ≤ t.length := by
  intro f
  induction f with
  | zero => intro p acc _ _ h; omega
  | succ f ih =>
    intro p acc hp hl _ hb hn
    have hc := cnd_ok ht hp (acc.map Prod.fst)
    unfold slt
    cases he : cnd t p (acc.map Prod.fst) with
    | inl e => rw [he] at hc; exact hc
    | inr x =>
      obtain ⟨w, c, q⟩ := x
      rw [he] at hc
      obtain ⟨h1, h2, h3, h4⟩ := hc
      simp only
      have hb' : ∀ x ∈ acc ++ [(w, c)], x.1 < 32 ∧ x.2 < 10 := by
        intro x hx
        rw [List.mem_append, List.mem_singleton] at hx
        rcases hx with hx | rfl
        · exact hb x hx
        · exact ⟨h1, h2⟩
      have hn' : ((acc ++ [(w, c)]).map Prod.fst).Nodup := by
        rw [List.map_append, List.map_singleton, List.nodup_append]
        exact ⟨hn, by simp, fun a ha b hb => by rw [List.mem_singleton] at hb; subst hb; exact fun z => h3 (z ▸ ha)⟩
      have hlen : (acc ++ [(w, c)]).length = acc.length + 1 := by rw [List.length_append, List.length_singleton]
      by_cases hf : f = 0
      · rw [if_pos hf]; exact ⟨⟨by omega, by omega, hb', hn'⟩, h4⟩
      · rw [if_neg hf]
        have h5 := skp_le h4
        by_cases h44 : ltr t (skp t q) = 44
        · rw [if_pos h44]
          have h6 := ht.in (p := skp t q) (by omega)
          exact ih _ _ (by omega) (by omega) (by omega) hb' hn'
        · rw [if_neg h44]; exact ⟨⟨by omega, by omega, hb', hn'⟩, h5⟩
theorem wds_ok {t : List Nat} (ht : tok t) : ∀ f p acc, p ≤ t.length → acc.length + f = 8 → (∀ s ∈ acc, slOk s) → match wds t f p acc with
    | .inl e => e ≤ t.length ∧ skp t e = e
    | .inr (sl, q) => (∀ s ∈ sl, slOk s) ∧ sl.length ≤ 8 ∧ q ≤ t.length := by
  intro f
  induction f with
  | zero => intro p acc hp hl ha; exact ⟨ha, by omega, hp⟩
  | succ f ih =>
    intro p acc hp hl ha
    have hc := slt_ok ht 4 p [] hp rfl (by omega) (fun x hx => by cases hx) (by simp)
    unfold wds
    cases he : slt t 4 p [] with
    | inl e => rw [he] at hc; exact hc
    | inr x =>
      obtain ⟨s, q⟩ := x
      rw [he] at hc
      simp only
      have ha' : ∀ x ∈ acc ++ [s], slOk x := by
        intro x hx
        rw [List.mem_append, List.mem_singleton] at hx
        rcases hx with hx | rfl
        · exact ha x hx
        · exact hc.1
      have hlen : (acc ++ [s]).length = acc.length + 1 := by rw [List.length_append, List.length_singleton]
      by_cases hf : f = 0
      · rw [if_pos hf]; exact ⟨ha', by omega, hc.2⟩
      · rw [if_neg hf]
        have h5 := skp_le hc.2
        by_cases h59 : ltr t (skp t q) = 59
        · rw [if_pos h59]
          have h6 := ht.in (p := skp t q) (by omega)
          exact ih _ _ (by omega) (by omega) ha'
        · rw [if_neg h59]; exact ⟨ha', by omega, h5⟩
theorem prs_ok {t : List Nat} (ht : tok t) : match prs t with
    | .inl e => e ≤ t.length
    | .inr sl => (∀ s ∈ sl, slOk s) ∧ sl.length ≤ 8 := by
  unfold prs
  by_cases h0 : skp t 0 = t.length
  · rw [if_pos h0]; exact ⟨fun s hs => (by cases hs), by simp⟩
  · rw [if_neg h0]
    have hc := wds_ok ht 8 (skp t 0) [] (skp_le (Nat.zero_le _)) rfl (fun s hs => by cases hs)
    cases he : wds t 8 (skp t 0) [] with
    | inl e => rw [he] at hc; exact hc.1
    | inr x =>
      obtain ⟨sl, q⟩ := x
      rw [he] at hc
      simp only
      by_cases h1 : skp t q < t.length
      · rw [if_pos h1]; exact Nat.le_of_lt h1
      · rw [if_neg h1]; exact ⟨hc.1, hc.2.1⟩
theorem getD_mem {α : Type} {l : List α} {k : Nat} (d : α) (h : k < l.length) : l[k]? = some (l.getD k d) := by
  rw [List.getD_eq_getElem?_getD, List.getElem?_eq_getElem h]; rfl
theorem Lt.Wf.lay {L : Lt} (hL : L.Wf) {sl : List (List (Nat × Nat))} (h8 : sl.length ≤ 8) (hs : ∀ s ∈ sl, slOk s) : (L.lay sl).Wf := by
  have key : ∀ k, k < sl.length → slOk (sl.getD k []) := fun k hk => hs _ (List.mem_of_getElem? (getD_mem [] hk))
  refine ⟨h8, hL.k5, hL.s20, hL.dr, fun k hk => ⟨(key k hk).1, (key k hk).2.1⟩, fun k j hk hj => ((key k hk).2.2.1 _ (List.mem_of_getElem? (getD_mem (0, 0) hj))).1, fun k j hk hj => ((key k hk).2.2.1 _ (List.mem_of_getElem? (getD_mem (0, 0) hj))).2, fun k i j hk hij hj e => ?_⟩
  have hn := (key k hk).2.2.2
  have hj' : j < (sl.getD k []).length := hj
  have hi' : i < (sl.getD k []).length := by omega
  have e' : ((sl.getD k []).getD i (0, 0)).1 = ((sl.getD k []).getD j (0, 0)).1 := e
  apply List.pairwise_iff_getElem.mp hn i j (by rw [List.length_map]; exact hi') (by rw [List.length_map]; exact hj') hij
  rw [List.getElem_map, List.getElem_map]
  have gi := getD_mem (l := sl.getD k []) (0, 0) hi'
  have gj := getD_mem (l := sl.getD k []) (0, 0) hj'
  rw [List.getElem?_eq_getElem hi'] at gi
  rw [List.getElem?_eq_getElem hj'] at gj
  rw [Option.some.inj gi, Option.some.inj gj]
  exact e'
end
section
/-! the Model reads a tape -/
def mTp (G : gP) (t : List Nat) (p : Nat) : Prop := gS G 0 23 = nI t.length ∧ gS G 0 24 = nI p ∧ aL G 11 0 t ∧ p ≤ t.length
def plc (G : gP) (p : Nat) : gP := gS1 G 0 24 (nI p)
theorem pl_pl (G : gP) (p q : Nat) : plc (plc G p) q = plc G q := gS1_1
theorem mTp.pl {G : gP} {t : List Nat} {p q : Nat} (h : mTp G t p) (hq : q ≤ t.length) : mTp (plc G q) t q := ⟨by unfold plc; rw [gS_ne (by decide)]; exact h.1, gS_at, h.2.2.1.S1 (Or.inl (by decide)), hq⟩
theorem mTp.id {G : gP} {t : List Nat} {p : Nat} (h : mTp G t p) : plc G p = G := gS1_id h.2.1
theorem mTp.at {G : gP} {t : List Nat} {p : Nat} (h : mTp G t p) {j : Nat} (hj : j < t.length) : gS G 11 j = nI (ltr t j) := by
  have := h.2.2.1 j _ (ltr_at hj)
  rwa [Nat.zero_add] at this
theorem here_ok {G : gP} {t : List Nat} {p : Nat} (ht : tok t) (h : mTp G t p) : f_X11_here G = some (plc G (skp t p), nI (ltr t (skp t p))) := by
  have hl := ht.1
  have hloop : Ok (gloop (f_X11_here_b0) gFu G) (fun G' => G' = plc G (skp t p)) := by
    refine Ok.loop (fun n s => ∃ p', n + p' = t.length ∧ s = plc G p' ∧ skp t p' = skp t p) ?_ gFu (t.length - p) _ (by unfold gFu; omega) ⟨p, by have := h.2.2.2; omega, h.id.symm, rfl⟩
    rintro n s ⟨p', hn, rfl, hs⟩
    have h' : mTp (plc G p') t p' := h.pl (by omega)
    unfold f_X11_here_b0
    rw [h'.1, h'.2.1]
    cases n with
    | zero =>
      rw [if_pos (nI_le (by omega) (by omega))]
      refine ⟨_, rfl, ?_⟩
      simp only
      rw [← hs, skp_n (by rw [ltr_ge (by omega)]; decide)]
    | succ n =>
      have hlt := ht.lt p'
      rw [if_neg (nI_ge (by omega) (by omega)), gIn_t (by omega) (by omega), gck_t, nI_clamp (by omega), h'.at (by omega)]
      by_cases e : ltr t p' = 32
      · rw [e, if_pos (show nI 32 = 32 from rfl), nI_1]
        refine ⟨_, rfl, n, by omega, p' + 1, by omega, pl_pl G p' (p' + 1), ?_⟩
        rw [← skp_s (by omega) e]; exact hs
      · rw [if_neg (show ¬ nI (ltr t p') = 32 from fun z => e ((nI_eq (b := 32) (by omega) (by decide)).mp z))]
        refine ⟨_, rfl, ?_⟩
        simp only
        rw [← hs, skp_n e]
  obtain ⟨G', e, rfl⟩ := hloop
  unfold f_X11_here
  rw [e, obind_some]
  have hle := skp_le h.2.2.2
  have h' := h.pl hle
  rw [h'.1, h'.2.1]
  by_cases hq : skp t p < t.length
  · rw [if_neg (nI_ge hq (by omega)), gIn_t (by omega) (by omega), gck_t, nI_clamp (by omega), h'.at hq]
  · rw [if_pos (nI_le (by omega) (by omega)), ltr_ge (by omega)]; rfl
theorem has_ok {G : gP} {t : List Nat} {p c : Nat} (ht : tok t) (h : mTp G t p) (hc : c < 2 ^ 31) : f_X11_has G (nI c) = some (if ltr t (skp t p) = c then (plc G (skp t p + 1), 1) else (plc G (skp t p), 0)) := by
  unfold f_X11_has
  rw [here_ok ht h, obind_some]
  have hlt := ht.lt (skp t p)
  have h' := h.pl (skp_le h.2.2.2)
  simp only
  by_cases e : ltr t (skp t p) = c
  · rw [if_pos (nI_inj e), if_pos e]
    simp only [gLet_e]
    rw [h'.2.1, nI_1]
    show some (plc (plc G _) _, _) = _
    rw [pl_pl]
  · rw [if_neg (fun z => e ((nI_eq (by omega) hc).mp z)), if_neg e]
theorem isD_in {c : Nat} (h : c < 2 ^ 31) : f_X11_in (nI c).toInt64 48 57 = bI (isD c) := by
  rw [in_nI h 48 57 48 57 rfl rfl]
  by_cases e : 48 ≤ c ∧ c ≤ 57
  · rw [if_pos e, (isD_iff c).mpr e]; rfl
  · rw [if_neg e]
    cases he : isD c
    · rfl
    · exact (e ((isD_iff c).mp he)).elim
def oW (o : Option Nat) : Int32 := match o with
  | none => -4
  | some w => nI w
theorem letter_ok {c : Nat} (h : c ≤ 126) : f_X11_letterWord (nI c) = oW (ltW c) := by
  unfold f_X11_letterWord ltW
  have k : ∀ a : Nat, a < 2 ^ 31 → (nI c = nI a ↔ c = a) := fun a ha => nI_eq (by omega) ha
  rw [show (104 : Int32) = nI 104 from rfl, show (116 : Int32) = nI 116 from rfl, show (97 : Int32) = nI 97 from rfl, show (115 : Int32) = nI 115 from rfl, show (110 : Int32) = nI 110 from rfl]
  simp only [k 104 (by decide), k 116 (by decide), k 97 (by decide), k 115 (by decide), k 110 (by decide)]
  by_cases h1 : c = 104
  · rw [if_pos h1, if_pos h1]; rfl
  rw [if_neg h1, if_neg h1]
  by_cases h2 : c = 116
  · rw [if_pos h2, if_pos h2]; rfl
  rw [if_neg h2, if_neg h2]
  by_cases h3 : c = 97
  · rw [if_pos h3, if_pos h3]; rfl
  rw [if_neg h3, if_neg h3]
  by_cases h4 : c = 115
  · rw [if_pos h4, if_pos h4]; rfl
  rw [if_neg h4, if_neg h4]
  by_cases h5 : c = 110
  · rw [if_pos h5, if_pos h5]; rfl
  rw [if_neg h5, if_neg h5]; rfl
theorem wBy_ok {v : Nat} (h : v ≤ 99) : (if f_X11_in (nI v).toInt64 1 19 = 0 then if nI v ≤ 19 then (-4 : Int32) else if gRem (nI v) 10 = 0 then 18 + nI v / 10 else -4 else nI v) = oW (wBy v) := by
  rw [in_nI (by omega) 1 19 1 19 rfl rfl, show (10 : Int32) = nI 10 from rfl, gRem_nI (by omega) (by decide) (by decide), pk_div (by omega) (by decide) (by decide)]
  unfold wBy
  by_cases h1 : 1 ≤ v ∧ v ≤ 19
  · rw [if_pos h1, if_neg (by decide), if_pos h1]; rfl
  · rw [if_neg h1, if_pos rfl, if_neg h1]
    by_cases h2 : v ≤ 19
    · rw [if_pos (show nI v ≤ 19 from nI_le (b := 19) h2 (by decide)), if_neg (by omega)]; rfl
    · rw [if_neg (show ¬ nI v ≤ 19 from nI_ge (a := 19) (by omega) (by omega))]
      by_cases h3 : v % 10 = 0
      · rw [if_pos ((nI_eq0 (by omega)).mpr h3), if_pos ⟨by omega, h3⟩]; exact nI_add 18 _
      · rw [if_neg (fun z => h3 ((nI_eq0 (by omega)).mp z)), if_neg (fun z => h3 z.2)]; rfl
/-- what reading a word leaves -/
def wrR (G : gP) (q : Nat) (o : Option (Nat × Nat)) : gP × Int32 := match o with
  | none => (plc G q, -4)
  | some (w, q') => (plc G q', nI w)
theorem nI_m4 {w : Nat} (h : w < 2 ^ 31) : ¬ nI w = -4 := fun z => by
  have := congrArg Int32.toInt z
  rw [nI_toInt h] at this
  have e : ((-4 : Int32)).toInt = -4 := by decide
  omega
theorem wordRead_ok {G : gP} {t : List Nat} {p : Nat} (ht : tok t) (h : mTp G t p) : f_X11_wordRead G = some (wrR G (skp t p) (rdW t (skp t p))) := by
  unfold f_X11_wordRead
  have hle := skp_le h.2.2.2
  have hl := ht.1
  have h' := h.pl hle
  rw [here_ok ht h, obind_some]
  simp only
  generalize hq : skp t p = q at *
  have hqq : skp t q = q := by rw [← hq]; exact skp_id t p
  have hlt := ht.lt q
  rw [isD_in (by omega)]
  unfold rdW
  cases hd : isD (ltr t q) with
  | false =>
    rw [if_pos (show bI false = 0 from rfl), if_neg (by decide), here_ok ht h', hqq, pl_pl, obind_some]
    simp only [gLet_e]
    rw [letter_ok (by omega), h'.2.1]
    cases hw : ltW (ltr t q) with
    | none =>
      show some (gS1 (plc G q) 0 24 (nI q + (if (-4 : Int32) = -4 then 0 else 1)), (-4 : Int32)) = some (plc G q, -4)
      rw [if_pos rfl, show nI q + 0 = nI q from nI_add q 0]
      show some (plc (plc G q) q, _) = _
      rw [pl_pl]
    | some w =>
      have hwl := ltW_lt hw
      show some (gS1 (plc G q) 0 24 (nI q + (if nI w = -4 then 0 else 1)), nI w) = some (plc G (q + 1), nI w)
      rw [if_neg (nI_m4 (by omega)), nI_1]
      show some (plc (plc G q) (q + 1), _) = _
      rw [pl_pl]
  | true =>
    have b1 := (isD_iff _).mp hd
    have hqi := ht.in (p := q) (by omega)
    rw [if_neg (show ¬ bI true = 0 by decide), if_pos rfl]
    simp only [gLet_e]
    rw [h'.2.1, gIn_t (by omega) (by omega), gck_t, nI_clamp (by omega), h'.at hqi, show nI (ltr t q) - 48 = nI (ltr t q - 48) from pk_sub (b := 48) b1.1, nI_1]
    have h2 : mTp (plc G (q + 1)) t (q + 1) := h.pl (by omega)
    have e1 : gS1 (plc G q) 0 24 (nI (q + 1)) = plc G (q + 1) := pl_pl G q (q + 1)
    rw [e1, h2.1, h2.2.1]
    have fin : ∀ v q', v ≤ 99 → (if (if f_X11_in (nI v).toInt64 1 19 = 0 then if nI v ≤ 19 then (-4 : Int32) else if gRem (nI v) 10 = 0 then 18 + nI v / 10 else -4 else nI v) = -4 then some (gS1 (plc G q') 0 24 (nI q), (if f_X11_in (nI v).toInt64 1 19 = 0 then if nI v ≤ 19 then (-4 : Int32) else if gRem (nI v) 10 = 0 then 18 + nI v / 10 else -4 else nI v)) else some (gS1 (plc G q') 0 24 (gS (plc G q') 0 24), (if f_X11_in (nI v).toInt64 1 19 = 0 then if nI v ≤ 19 then (-4 : Int32) else if gRem (nI v) 10 = 0 then 18 + nI v / 10 else -4 else nI v))) = some (wrR G q ((wBy v).map (fun w => (w, q')))) := by
      intro v q' hv
      rw [wBy_ok hv]
      cases hw : wBy v with
      | none =>
        show (if (-4 : Int32) = -4 then some (gS1 (plc G q') 0 24 (nI q), (-4 : Int32)) else _) = some (plc G q, -4)
        rw [if_pos rfl]
        show some (plc (plc G q') q, _) = _
        rw [pl_pl]
      | some w =>
        have hwl := wBy_lt hv hw
        show (if nI w = -4 then _ else some (gS1 (plc G q') 0 24 (gS (plc G q') 0 24), nI w)) = some (plc G q', nI w)
        rw [if_neg (nI_m4 (by omega)), gS1_id rfl]
    by_cases hlast : q + 1 < t.length
    · have hlt2 := ht.lt (q + 1)
      rw [if_neg (nI_ge hlast (by omega)), gIn_t (by omega) (by omega), gck_t, nI_clamp (by omega), h2.at hlast, isD_in (by omega)]
      cases hd2 : isD (ltr t (q + 1)) with
      | false =>
        rw [if_pos (show bI false = 0 from rfl), if_neg (by decide), obind_some]
        exact fin _ _ (by omega)
      | true =>
        have b2 := (isD_iff _).mp hd2
        rw [if_neg (show ¬ bI true = 0 by decide), if_pos rfl, gck_t]
        have e2 : (10 : Int32) * nI (ltr t q - 48) + nI (ltr t (q + 1)) - 48 = nI (10 * (ltr t q - 48) + (ltr t (q + 1) - 48)) := by
          rw [show (10 : Int32) = nI 10 from rfl, pk_mul, nI_add, show (48 : Int32) = nI 48 from rfl, pk_sub (by omega)]
          apply nI_inj; omega
        rw [e2, nI_1, obind_some]
        have e3 : gS1 (plc G (q + 1)) 0 24 (nI (q + 1 + 1)) = plc G (q + 2) := pl_pl G (q + 1) (q + 2)
        rw [e3]
        exact fin _ _ (by omega)
    · rw [if_pos (nI_le (by omega) (by omega)), obind_some]
      have : isD (ltr t (q + 1)) = false := by rw [ltr_ge (by omega)]; rfl
      rw [this, if_neg (show ¬ false = true by decide)]
      exact fin (ltr t q - 48) (q + 1) (by omega)
end
section
/-! the Model reads slots -/
def mSlR (G : gP) (n : Nat) (acc : List (Nat × Nat)) : Prop := gS G 12 (9 * n) = nI acc.length ∧ ∀ j x, acc[j]? = some x → gS G 12 (9 * n + 1 + j) = nI x.1 ∧ gS G 12 (9 * n + 5 + j) = nI x.2
theorem mSlR.off {Z : Nat → Nat → Bool} {G G' : gP} {n : Nat} {acc : List (Nat × Nat)} (h : mSlR G n acc) (h4 : acc.length ≤ 4) (hO : gOff Z G G') (z : ∀ j, 9 * n ≤ j → j < 9 * n + 9 → Z 12 j = false) : mSlR G' n acc := by
  refine ⟨by rw [(hO 12 _ (z _ (by omega) (by omega))).1]; exact h.1, fun j x hj => ?_⟩
  have hjl := (List.getElem?_eq_some_iff.mp hj).1
  exact ⟨by rw [(hO 12 _ (z _ (by omega) (by omega))).1]; exact (h.2 j x hj).1, by rw [(hO 12 _ (z _ (by omega) (by omega))).1]; exact (h.2 j x hj).2⟩
theorem mTp.off {Z : Nat → Nat → Bool} {G G' : gP} {t : List Nat} {p : Nat} (h : mTp G t p) (hO : gOff Z G G') (z : ∀ k j, (k = 0 ∧ (j = 23 ∨ j = 24)) ∨ k = 11 → Z k j = false) : mTp G' t p :=
  ⟨by rw [(hO 0 23 (z _ _ (by omega))).1]; exact h.1, by rw [(hO 0 24 (z _ _ (by omega))).1]; exact h.2.1, fun j v hj => by rw [(hO 11 _ (z _ _ (by omega))).1]; exact h.2.2.1 j v hj, h.2.2.2⟩
def rZ (n k j : Nat) : Bool := decide ((k = 12 ∧ 9 * n ≤ j ∧ j < 9 * n + 9) ∨ (k = 0 ∧ j = 24))
theorem plc_off (n : Nat) (G : gP) (p : Nat) : gOff (rZ n) G (plc G p) := gOff.rf.S1 (by simp [rZ])
theorem plc_S (G : gP) (p k j : Nat) (h : ¬ (k = 0 ∧ j = 24)) : gS (plc G p) k j = gS G k j := gS_ne h
def anyB (c : Nat → Bool) : Nat → Bool
  | 0 => false
  | k + 1 => anyB c k || c k
theorem anyB_iff (c : Nat → Bool) : ∀ N, anyB c N = true ↔ ∃ k, k < N ∧ c k = true := by
  intro N
  induction N with
  | zero => exact ⟨fun h => (by cases h), fun ⟨k, hk, _⟩ => (by omega)⟩
  | succ N ih =>
    show (anyB c N || c N) = true ↔ _
    rw [Bool.or_eq_true, ih]
    constructor
    · rintro (⟨k, h1, h2⟩ | h)
      · exact ⟨k, by omega, h2⟩
      · exact ⟨N, by omega, h⟩
    · rintro ⟨k, h1, h2⟩
      by_cases e : k = N
      · subst e; exact Or.inr h2
      · exact Or.inl ⟨k, by omega, h2⟩
theorem had_ok {G : gP} {n : Nat} {acc : List (Nat × Nat)} (hn : n < 8) (h : mSlR G n acc) (h4 : acc.length ≤ 4) (x : Int32) : Ok (gloop (f_X11_reads_b62 (nI (9 * n)) (G, x)) gFu ((0 : Int32), (0 : Int32))) (fun y => y = bI (anyB (fun k => decide (gS G 12 (9 * n + 1 + k) = x)) acc.length)) := by
  refine Ok.up (fun i s => s = (bI (anyB (fun k => decide (gS G 12 (9 * n + 1 + k) = x)) i), nI i)) acc.length (by omega) ?_ ?_ rfl
  · rintro i s hi rfl
    unfold f_X11_reads_b62
    simp only
    rw [gIn_t (by omega) (by omega), gck_t, nI_clamp (by omega), h.1, if_neg (nI_ge hi (by omega)), nI_1, nI_add, gIn_t (show 9 * n + 1 + i < 2 ^ 31 by omega) (by omega), gck_t, nI_clamp (by omega), nI_1]
    have e9 : anyB (fun k => decide (gS G 12 (9 * n + 1 + k) = x)) (i + 1) = (anyB (fun k => decide (gS G 12 (9 * n + 1 + k) = x)) i || decide (gS G 12 (9 * n + 1 + i) = x)) := rfl
    rw [e9]
    cases anyB (fun k => decide (gS G 12 (9 * n + 1 + k) = x)) i with
    | true => rw [if_neg (show ¬ bI true = 0 by decide)]; exact ⟨_, rfl, rfl⟩
    | false =>
      rw [if_pos (show bI false = 0 from rfl)]
      by_cases e : gS G 12 (9 * n + 1 + i) = x
      · rw [if_pos e, decide_eq_true e]; exact ⟨_, rfl, rfl⟩
      · rw [if_neg e, decide_eq_false e]; exact ⟨_, rfl, rfl⟩
  · rintro s rfl
    unfold f_X11_reads_b62
    simp only
    rw [gIn_t (by omega) (by omega), gck_t, nI_clamp (by omega), h.1, if_pos (nI_le (Nat.le_refl _) (by omega))]
    exact ⟨_, rfl, rfl⟩
theorem had_mem {G : gP} {n w : Nat} {acc : List (Nat × Nat)} (h : mSlR G n acc) (hb : ∀ x ∈ acc, x.1 < 32 ∧ x.2 < 10) (hw : w < 2 ^ 31) : anyB (fun k => decide (gS G 12 (9 * n + 1 + k) = nI w)) acc.length = decide (w ∈ acc.map Prod.fst) := by
  have key : anyB (fun k => decide (gS G 12 (9 * n + 1 + k) = nI w)) acc.length = true ↔ w ∈ acc.map Prod.fst := by
    rw [anyB_iff, List.mem_map]
    constructor
    · rintro ⟨k, hk, e⟩
      have hx := List.getElem?_eq_getElem hk
      have e1 := (h.2 k _ hx).1
      have e2 := of_decide_eq_true e
      rw [e1] at e2
      have hbb := (hb _ (List.getElem_mem hk)).1
      exact ⟨_, List.getElem_mem hk, (nI_eq (by omega) hw).mp e2⟩
    · rintro ⟨x, hx, rfl⟩
      obtain ⟨k, hk, e⟩ := List.getElem_of_mem hx
      refine ⟨k, hk, decide_eq_true ?_⟩
      exact (h.2 k x (by rw [List.getElem?_eq_getElem hk, e])).1
  by_cases hm : w ∈ acc.map Prod.fst
  · rw [key.mpr hm, decide_eq_true hm]
  · rw [decide_eq_false hm]
    cases hc : anyB (fun k => decide (gS G 12 (9 * n + 1 + k) = nI w)) acc.length with
    | false => rfl
    | true => exact (hm (key.mp hc)).elim
theorem wrR_plc (G : gP) (a q : Nat) (o : Option (Nat × Nat)) : wrR (plc G a) q o = wrR G q o := by
  cases o with
  | none => show (plc (plc G a) q, _) = (plc G q, _); rw [pl_pl]
  | some x => obtain ⟨w, q'⟩ := x; show (plc (plc G a) q', _) = (plc G q', _); rw [pl_pl]
/-- a slot from its first word on -/
theorem reads_ok {G : gP} {t : List Nat} {p n : Nat} (ht : tok t) (h : mTp G t p) (hn : n < 8) : Ok (f_X11_reads G (nI n)) (fun r => gOff (rZ n) G r.1 ∧ match slt t 4 p [] with
    | .inl e => r.2 = 0 ∧ mTp r.1 t e
    | .inr (s, q) => r.2 = 1 ∧ mTp r.1 t q ∧ mSlR r.1 n s) := by
  have hl := ht.1
  unfold f_X11_reads
  have e9 : (9 : Int32) * nI n = nI (9 * n) := pk_mul 9 n
  simp only [gLet_e]
  rw [e9, gIn_t (by omega) (by omega), gck_t, nI_clamp (by omega)]
  have hO0 : gOff (rZ n) G (gS1 G 12 (9 * n) 0) := gOff.rf.S1 (by simp [rZ])
  have h0 : mTp (gS1 G 12 (9 * n) 0) t p := h.off (Z := fun k _ => decide (k = 12)) (gOff.rf.S1 (by simp)) (fun k j hk => by simp; omega)
  have hs0 : mSlR (gS1 G 12 (9 * n) 0) n [] := ⟨gS_at, fun j x hj => by cases hj⟩
  generalize gS1 G 12 (9 * n) 0 = G0 at *
  refine Ok.bind (Q := fun z => match z with
    | .inl G1 => gOff (rZ n) G G1 ∧ ∃ s q, slt t 4 p [] = .inr (s, q) ∧ mTp G1 t q ∧ mSlR G1 n s
    | .inr r => r.2 = 0 ∧ gOff (rZ n) G r.1 ∧ ∃ e, slt t 4 p [] = .inl e ∧ mTp r.1 t e) ?_ (fun z hz => ?_)
  · refine Ok.loop (fun f s => gOff (rZ n) G s.1 ∧ ((f = 0 ∧ s.2 = 0 ∧ ∃ sl q, slt t 4 p [] = .inr (sl, q) ∧ mTp s.1 t q ∧ mSlR s.1 n sl) ∨ (0 < f ∧ s.2 = 1 ∧ ∃ p' acc, acc.length + f = 4 ∧ slt t 4 p [] = slt t f p' acc ∧ mTp s.1 t p' ∧ mSlR s.1 n acc ∧ ∀ x ∈ acc, x.1 < 32 ∧ x.2 < 10))) ?_ gFu 4 _ (by unfold gFu; omega) ⟨hO0, Or.inr ⟨by omega, rfl, p, [], rfl, rfl, h0, hs0, fun x hx => by cases hx⟩⟩
    rintro f ⟨G1, x⟩ ⟨hO, hJ⟩
    simp only at hO hJ
    rcases hJ with ⟨rfl, rfl, sl, q, he, hT, hS⟩ | ⟨hf, rfl, p', acc, hlen, he, hT, hS, hb⟩
    · unfold f_X11_reads_b14
      simp only
      rw [if_pos trivial]
      exact ⟨_, rfl, hO, sl, q, he, hT, hS⟩
    · obtain ⟨f, rfl⟩ : ∃ f', f = f' + 1 := ⟨f - 1, by omega⟩
      unfold f_X11_reads_b14
      simp only
      rw [if_neg (by decide), here_ok ht hT, obind_some]
      simp only [gLet_e]
      have hle := skp_le hT.2.2.2
      have hT' := hT.pl hle
      have hlt := ht.lt (skp t p')
      -- where a word that is wrong begins
      have e17 : (if (if nI (ltr t (skp t p')) = 0 then (1 : Int32) else 0) = 0 then gS (plc G1 (skp t p')) 0 24 else gS (plc G1 (skp t p')) 0 23) = nI (skp t p') := by
        rw [hT'.1, hT'.2.1]
        by_cases e0 : ltr t (skp t p') = 0
        · rw [e0, if_pos (show nI 0 = 0 from rfl), if_neg (by decide)]
          have : ¬ skp t p' < t.length := fun z => by have := ht.lb z; omega
          apply nI_inj; omega
        · rw [if_neg (nI_ne0 (by omega) (by omega)), if_pos rfl]
      rw [e17, wordRead_ok ht hT', skp_id, wrR_plc]
      have hslt : slt t (f + 1) p' acc = match cnd t p' (acc.map Prod.fst) with
        | .inl e => .inl e
        | .inr (w, c, q) => if f = 0 then .inr (acc ++ [(w, c)], q) else if ltr t (skp t q) = 44 then slt t f (skp t q + 1) (acc ++ [(w, c)]) else .inr (acc ++ [(w, c)], skp t q) := rfl
      unfold cnd at hslt
      have hS' : ∀ q', mSlR (plc G1 q') n acc := fun q' => hS.off (by omega) (Z := fun k _ => decide (k = 0)) (gOff.rf.S1 (by simp)) (fun j _ _ => by simp)
      have wrong : ∀ q', slt t 4 p [] = .inl (skp t p') → Ok (some (Sum.inr (Sum.inr (gS1 (plc G1 q') 0 24 (nI (skp t p')), (0 : Int32))) : (gP × Int32) ⊕ (gP ⊕ (gP × Int32)))) (fun r => match r with | .inl s' => ∃ n', n' < f + 1 ∧ gOff (rZ n) G s'.1 ∧ ((n' = 0 ∧ s'.2 = 0 ∧ ∃ sl q, slt t 4 p [] = .inr (sl, q) ∧ mTp s'.1 t q ∧ mSlR s'.1 n sl) ∨ (0 < n' ∧ s'.2 = 1 ∧ ∃ p' acc, acc.length + n' = 4 ∧ slt t 4 p [] = slt t n' p' acc ∧ mTp s'.1 t p' ∧ mSlR s'.1 n acc ∧ ∀ x ∈ acc, x.1 < 32 ∧ x.2 < 10)) | .inr z => (match z with | .inl G1 => gOff (rZ n) G G1 ∧ ∃ s q, slt t 4 p [] = .inr (s, q) ∧ mTp G1 t q ∧ mSlR G1 n s | .inr r => r.2 = 0 ∧ gOff (rZ n) G r.1 ∧ ∃ e, slt t 4 p [] = .inl e ∧ mTp r.1 t e)) := by
        intro q' hq
        refine ⟨_, rfl, rfl, ?_, skp t p', hq, ?_⟩
        · exact (hO.tr (plc_off n G1 q')).tr (plc_off n _ _)
        · show mTp (plc (plc G1 q') (skp t p')) t (skp t p')
          rw [pl_pl]; exact hT'
      cases hr : rdW t (skp t p') with
      | none =>
        rw [hr] at hslt
        simp only at hslt
        rw [obind_some]
        show Ok ((gloop (f_X11_reads_b62 (nI (9 * n)) (plc G1 (skp t p'), -4)) gFu ((0 : Int32), (0 : Int32))).bind _) _
        refine Ok.bind (had_ok hn (hS' _) (by omega) (-4)) (fun y _ => ?_)
        show Ok (if (-4 : Int32) = -4 then _ else _) _
        rw [if_pos rfl]
        refine (wrong (skp t p') (he.trans hslt)).imp ?_
        intro r hr
        cases r with
        | inl s => exact hr
        | inr z =>
          cases z with
          | inl G1 => exact hr
          | inr z => exact hr
      | some wq =>
        obtain ⟨w, q1⟩ := wq
        rw [hr] at hslt
        simp only at hslt
        have hwq := rdW_lt ht hr
        have ewr : wrR G1 (skp t p') (some (w, q1)) = (plc G1 q1, nI w) := rfl
        rw [obind_some, ewr]
        simp only
        refine Ok.bind (had_ok hn (hS' _) (by omega) (nI w)) (fun y hy => ?_)
        subst hy
        rw [had_mem (hS' q1) hb (by omega)]
        show Ok (if nI w = -4 then _ else _) _
        rw [if_neg (nI_m4 (by omega))]
        by_cases hm : w ∈ acc.map Prod.fst
        · rw [if_pos hm] at hslt
          rw [decide_eq_true hm, if_neg (show ¬ bI true = 0 by decide)]
          refine (wrong q1 (he.trans hslt)).imp ?_
          intro r hr
          cases r with
          | inl s => exact hr
          | inr z =>
            cases z with
            | inl G1 => exact hr
            | inr z => exact hr
        · rw [if_neg hm] at hslt
          rw [decide_eq_false hm, if_pos (show bI false = 0 from rfl)]
          rw [gIn_t (by omega) (by omega), gck_t, nI_clamp (by omega), (hS' q1).1]
          have a1 : nI (9 * n) + 1 + nI acc.length = nI (9 * n + 1 + acc.length) := by rw [nI_1, nI_add]
          have a5 : nI (9 * n) + 5 + nI acc.length = nI (9 * n + 5 + acc.length) := by rw [show nI (9 * n) + 5 = nI (9 * n + 5) from nI_add _ 5, nI_add]
          rw [a1, a5, gIn_t (show 9 * n + 1 + acc.length < 2 ^ 31 by omega) (by omega), gck_t, gIn_t (show 9 * n + 5 + acc.length < 2 ^ 31 by omega) (by omega), gck_t, nI_clamp (show 9 * n + 1 + acc.length < 2 ^ 31 by omega), nI_clamp (show 9 * n + 5 + acc.length < 2 ^ 31 by omega)]
          -- the word lies there, its cost 0
          have hq1 : mTp (plc G1 q1) t q1 := hT.pl hwq.2.2
          have hO2 : gOff (fun k j => decide (k = 12 ∧ (j = 9 * n + 1 + acc.length ∨ j = 9 * n + 5 + acc.length))) (plc G1 q1) (gS1 (gS1 (plc G1 q1) 12 (9 * n + 1 + acc.length) (nI w)) 12 (9 * n + 5 + acc.length) 0) := (gOff.rf.S1 (by simp)).S1 (by simp)
          have hT2 : mTp (gS1 (gS1 (plc G1 q1) 12 (9 * n + 1 + acc.length) (nI w)) 12 (9 * n + 5 + acc.length) 0) t q1 := hq1.off hO2 (fun k j hk => by simp; omega)
          have hw2 : gS (gS1 (gS1 (plc G1 q1) 12 (9 * n + 1 + acc.length) (nI w)) 12 (9 * n + 5 + acc.length) 0) 12 (9 * n + 1 + acc.length) = nI w := by rw [gS_ne (by omega), gS_at]
          have hc2 : gS (gS1 (gS1 (plc G1 q1) 12 (9 * n + 1 + acc.length) (nI w)) 12 (9 * n + 5 + acc.length) 0) 12 (9 * n + 5 + acc.length) = nI 0 := gS_at
          have hOG2 : gOff (rZ n) G (gS1 (gS1 (plc G1 q1) 12 (9 * n + 1 + acc.length) (nI w)) 12 (9 * n + 5 + acc.length) 0) := (hO.tr (plc_off n G1 q1)).tr (hO2.w (fun k j z => by simp [rZ] at z ⊢; omega))
          have hold : ∀ j, (j < 9 * n + 1 + acc.length ∨ (9 * n + 5 ≤ j ∧ j < 9 * n + 5 + acc.length)) → gS (gS1 (gS1 (plc G1 q1) 12 (9 * n + 1 + acc.length) (nI w)) 12 (9 * n + 5 + acc.length) 0) 12 j = gS G1 12 j := fun j hj => by rw [gS_ne (by omega), gS_ne (by omega), plc_S _ _ _ _ (by omega)]
          generalize gS1 (gS1 (plc G1 q1) 12 (9 * n + 1 + acc.length) (nI w)) 12 (9 * n + 5 + acc.length) 0 = G2 at *
          -- behind the candidate
          have tail : ∀ (G3 : gP) (c q : Nat), c < 10 → mTp G3 t q → gOff (rZ n) G G3 → gS G3 12 (9 * n) = nI acc.length → (∀ j, (j < 9 * n + 1 + acc.length ∨ (9 * n + 5 ≤ j ∧ j < 9 * n + 5 + acc.length)) → gS G3 12 j = gS G1 12 j) → gS G3 12 (9 * n + 1 + acc.length) = nI w → gS G3 12 (9 * n + 5 + acc.length) = nI c → slt t 4 p [] = (if f = 0 then .inr (acc ++ [(w, c)], q) else if ltr t (skp t q) = 44 then slt t f (skp t q + 1) (acc ++ [(w, c)]) else .inr (acc ++ [(w, c)], skp t q)) →
              Ok (gck (gIn (nI (9 * n)) 72) (gck (gIn (nI (9 * n)) 72) (gLet (gS1 G3 12 (nI (9 * n)).toNatClampNeg (gS G3 12 (nI (9 * n)).toNatClampNeg + 1)) fun G51 => gck (gIn (nI (9 * n)) 72) (if (4 : Int32) ≤ gS G51 12 (nI (9 * n)).toNatClampNeg then some (Sum.inl (G51, (0 : Int32))) else (f_X11_has G51 44).bind fun q55 => if q55.2 = 0 then some (Sum.inl (q55.1, (0 : Int32))) else some (Sum.inl (q55.1, (1 : Int32))))))) (fun r : (gP × Int32) ⊕ (gP ⊕ (gP × Int32)) => ∃ s', r = .inl s' ∧ ∃ n', n' < f + 1 ∧ gOff (rZ n) G s'.1 ∧ ((n' = 0 ∧ s'.2 = 0 ∧ ∃ sl q, slt t 4 p [] = .inr (sl, q) ∧ mTp s'.1 t q ∧ mSlR s'.1 n sl) ∨ (0 < n' ∧ s'.2 = 1 ∧ ∃ p' acc, acc.length + n' = 4 ∧ slt t 4 p [] = slt t n' p' acc ∧ mTp s'.1 t p' ∧ mSlR s'.1 n acc ∧ ∀ x ∈ acc, x.1 < 32 ∧ x.2 < 10))) := by
            intro G3 c q hc hT3 hO3 hm3 hold3 hw3 hc3 hR
            rw [gIn_t (show 9 * n < 2 ^ 31 by omega) (by omega), gck_t, gck_t, nI_clamp (show 9 * n < 2 ^ 31 by omega), hm3, nI_1]
            simp only [gLet_e]
            rw [gck_t, gS_at]
            have hT4 : mTp (gS1 G3 12 (9 * n) (nI (acc.length + 1))) t q := hT3.off (Z := fun k _ => decide (k = 12)) (gOff.rf.S1 (by simp)) (fun k j hk => by simp; omega)
            have hO4 : gOff (rZ n) G (gS1 G3 12 (9 * n) (nI (acc.length + 1))) := hO3.S1 (by simp [rZ])
            have hS4 : mSlR (gS1 G3 12 (9 * n) (nI (acc.length + 1))) n (acc ++ [(w, c)]) := by
              refine ⟨by rw [gS_at, List.length_append, List.length_singleton], fun j x hj => ?_⟩
              by_cases e : j = acc.length
              · subst e
                rw [List.getElem?_append_right (Nat.le_refl _), Nat.sub_self] at hj
                cases hj
                exact ⟨by rw [gS_ne (by omega)]; exact hw3, by rw [gS_ne (by omega)]; exact hc3⟩
              · have hjl : j < acc.length := by have := (List.getElem?_eq_some_iff.mp hj).1; simp at this; omega
                rw [List.getElem?_append_left hjl] at hj
                have := hS.2 j x hj
                exact ⟨by rw [gS_ne (by omega), hold3 _ (by omega)]; exact this.1, by rw [gS_ne (by omega), hold3 _ (by omega)]; exact this.2⟩
            generalize gS1 G3 12 (9 * n) (nI (acc.length + 1)) = G4 at *
            have hS4' : ∀ q', mSlR (plc G4 q') n (acc ++ [(w, c)]) := fun q' => hS4.off (by rw [List.length_append, List.length_singleton]; omega) (Z := fun k _ => decide (k = 0)) (gOff.rf.S1 (by simp)) (fun j _ _ => by simp)
            by_cases hf0 : f = 0
            · rw [if_pos hf0] at hR
              rw [if_pos (show (4 : Int32) ≤ nI (acc.length + 1) from nI_le (a := 4) (by omega) (by omega))]
              exact ⟨_, rfl, _, rfl, 0, by omega, hO4, Or.inl ⟨rfl, rfl, _, _, hR, hT4, hS4⟩⟩
            · rw [if_neg hf0] at hR
              rw [if_neg (show ¬ (4 : Int32) ≤ nI (acc.length + 1) from nI_ge (b := 4) (by omega) (by decide)), show (44 : Int32) = nI 44 from rfl, has_ok ht hT4 (by decide), obind_some]
              have hle4 := skp_le hT4.2.2.2
              by_cases h44 : ltr t (skp t q) = 44
              · rw [if_pos h44] at hR ⊢
                have hin := ht.in (p := skp t q) (by omega)
                simp only
                rw [if_neg (by decide)]
                refine ⟨_, rfl, _, rfl, f, by omega, hO4.tr (plc_off n _ _), Or.inr ⟨by omega, rfl, skp t q + 1, acc ++ [(w, c)], ?_, hR, hT4.pl (by omega), hS4' _, ?_⟩⟩
                · rw [List.length_append, List.length_singleton]; omega
                · intro x hx
                  rw [List.mem_append, List.mem_singleton] at hx
                  rcases hx with hx | rfl
                  · exact hb x hx
                  · exact ⟨hwq.1, hc⟩
              · rw [if_neg h44] at hR ⊢
                simp only
                rw [if_pos trivial]
                exact ⟨_, rfl, _, rfl, 0, by omega, hO4.tr (plc_off n _ _), Or.inl ⟨rfl, rfl, _, _, hR, hT4.pl hle4, hS4' _⟩⟩
          have m2 : gS G2 12 (9 * n) = nI acc.length := by rw [hold _ (by omega)]; exact hS.1
          rw [show (58 : Int32) = nI 58 from rfl, has_ok ht hT2 (by decide), obind_some]
          have hle2 := skp_le hwq.2.2
          by_cases h58 : ltr t (skp t q1) = 58
          · rw [if_pos h58] at hslt ⊢
            have hin := ht.in (p := skp t q1) (by omega)
            have hT3 : mTp (plc G2 (skp t q1 + 1)) t (skp t q1 + 1) := hT2.pl (by omega)
            have hle3 := skp_le hT3.2.2.2
            have hT4 := hT3.pl hle3
            have hlt3 := ht.lt (skp t (skp t q1 + 1))
            simp only
            rw [if_neg (by decide), here_ok ht hT3, obind_some]
            simp only
            rw [isD_in (by omega)]
            cases hd : isD (ltr t (skp t (skp t q1 + 1))) with
            | false =>
              rw [hd, if_neg (by decide)] at hslt
              simp only at hslt
              rw [if_pos (show bI false = 0 from rfl)]
              exact ⟨_, rfl, rfl, (hOG2.tr (plc_off n _ _)).tr (plc_off n _ _), _, he.trans hslt, hT4⟩
            | true =>
              rw [hd, if_pos rfl] at hslt
              simp only at hslt
              have bd := (isD_iff _).mp hd
              have hin3 := ht.in (p := skp t (skp t q1 + 1)) (by omega)
              rw [if_neg (show ¬ bI true = 0 by decide), here_ok ht hT4, skp_id, obind_some]
              simp only [gck_t, pl_pl]
              rw [show nI (ltr t (skp t (skp t q1 + 1))) - 48 = nI (ltr t (skp t (skp t q1 + 1)) - 48) from pk_sub (b := 48) bd.1]
              have e24 : gS (gS1 (plc G2 (skp t (skp t q1 + 1))) 12 (9 * n + 5 + acc.length) (nI (ltr t (skp t (skp t q1 + 1)) - 48))) 0 24 + 1 = nI (skp t (skp t q1 + 1) + 1) := by rw [gS_ne (by omega), (hT2.pl hle3).2.1, nI_1]
              rw [e24]
              have hO5 : gOff (fun k j => decide (k = 12 ∧ j = 9 * n + 5 + acc.length)) (plc G2 (skp t (skp t q1 + 1))) (gS1 (plc G2 (skp t (skp t q1 + 1))) 12 (9 * n + 5 + acc.length) (nI (ltr t (skp t (skp t q1 + 1)) - 48))) := gOff.rf.S1 (by simp)
              have hT5 : mTp (gS1 (plc G2 (skp t (skp t q1 + 1))) 12 (9 * n + 5 + acc.length) (nI (ltr t (skp t (skp t q1 + 1)) - 48))) t (skp t (skp t q1 + 1)) := (hT2.pl hle3).off hO5 (fun k j hk => by simp; omega)
              have key := tail (plc (gS1 (plc G2 (skp t (skp t q1 + 1))) 12 (9 * n + 5 + acc.length) (nI (ltr t (skp t (skp t q1 + 1)) - 48))) (skp t (skp t q1 + 1) + 1)) (ltr t (skp t (skp t q1 + 1)) - 48) (skp t (skp t q1 + 1) + 1) (by omega) (hT5.pl (by omega)) (((hOG2.tr (plc_off n _ _)).tr (hO5.w (fun k j z => by simp [rZ] at z ⊢; omega))).tr (plc_off n _ _)) (by rw [plc_S _ _ _ _ (by omega), gS_ne (by omega), plc_S _ _ _ _ (by omega)]; exact m2) (fun j hj => by rw [plc_S _ _ _ _ (by omega), gS_ne (by omega), plc_S _ _ _ _ (by omega)]; exact hold j hj) (by rw [plc_S _ _ _ _ (by omega), gS_ne (by omega), plc_S _ _ _ _ (by omega)]; exact hw2) (by rw [plc_S _ _ _ _ (by omega), gS_at]) (he.trans hslt)
              rw [gIn_t (show 9 * n < 2 ^ 31 by omega) (by omega), nI_clamp (show 9 * n < 2 ^ 31 by omega)] at key
              simp only [gLet_e, gck_t] at key
              refine key.imp ?_
              rintro r ⟨s', rfl, hs'⟩
              exact hs'
          · rw [if_neg h58] at hslt ⊢
            simp only [gck_t]
            rw [if_pos trivial]
            have key := tail (plc G2 (skp t q1)) 0 (skp t q1) (by omega) (hT2.pl hle2) (hOG2.tr (plc_off n _ _)) (by rw [plc_S _ _ _ _ (by omega)]; exact m2) (fun j hj => by rw [plc_S _ _ _ _ (by omega)]; exact hold j hj) (by rw [plc_S _ _ _ _ (by omega)]; exact hw2) (by rw [plc_S _ _ _ _ (by omega)]; exact hc2) (he.trans hslt)
            rw [gIn_t (show 9 * n < 2 ^ 31 by omega) (by omega), nI_clamp (show 9 * n < 2 ^ 31 by omega)] at key
            simp only [gLet_e, gck_t] at key
            refine key.imp ?_
            rintro r ⟨s', rfl, hs'⟩
            exact hs'
  · cases z with
    | inl G1 =>
      obtain ⟨hO, s, q, he, hT, hS⟩ := hz
      refine ⟨_, rfl, hO, ?_⟩
      rw [he]
      exact ⟨rfl, hT, hS⟩
    | inr r =>
      obtain ⟨h2, hO, e, he, hT⟩ := hz
      refine ⟨_, rfl, hO, ?_⟩
      rw [he]
      exact ⟨h2, hT⟩
end
section
/-! the Model's words -/
theorem fault_ok {G : gP} {t : List Nat} {e : Nat} (ht : tok t) (h : mTp G t e) (hs : skp t e = e) : f_X11_fault G = some (gS1 G 0 23 0, -20 - nI e) := by
  have hl := ht.1
  unfold f_X11_fault
  rw [here_ok ht h, hs, obind_some, h.id]
  have hlt := ht.lt e
  have e17 : (if (if nI (ltr t e) = 0 then (1 : Int32) else 0) = 0 then gS G 0 24 else gS G 0 23) = nI e := by
    rw [h.1, h.2.1]
    by_cases e0 : ltr t e = 0
    · rw [e0, if_pos (show nI 0 = 0 from rfl), if_neg (by decide)]
      have h2 := h.2.2.2
      have : ¬ e < t.length := fun z => by have := ht.lb z; omega
      apply nI_inj; omega
    · rw [if_neg (nI_ne0 (by omega) (by omega)), if_pos rfl]
  simp only [gLet_e]
  rw [e17]
theorem mSt.tape0 {S : St} {G : gP} (h : mSt S G) : mSt (St.of (S.now) (S.past) (S.kept) ([]) (S.sh)) (gS1 G 0 23 0) := by
  have hO : gOff (fun k j => decide (k = 0 ∧ j = 23)) G (gS1 G 0 23 0) := gOff.rf.S1 (by simp)
  refine ⟨h.now.off hO (fun _ => rfl), by rw [(hO 0 29 rfl).1]; exact h.un, fun i L hi => (h.past i L hi).off hO (fun _ => rfl), ?_, gS_at, aL.nil, ?_⟩
  · have hk := h.kept
    show match S.kept with | none => _ | some (L, p) => _
    cases hS : S.kept with
    | none => rw [hS] at hk; simp only at hk ⊢; rw [(hO 0 32 rfl).1]; exact hk
    | some q =>
      obtain ⟨L, p⟩ := q
      rw [hS] at hk
      exact ⟨hk.1.off hO (fun _ => rfl), by rw [(hO 0 32 rfl).1]; exact hk.2.1, fun i L hi => (hk.2.2 i L hi).off hO (fun _ => rfl)⟩
  · intro s hs
    have := h.sh s hs
    show match S.sh s with | none => _ | some (k, l) => _
    cases hS : S.sh s with
    | none => rw [hS] at this; simp only at this ⊢; rw [(hO 17 s rfl).1]; exact this
    | some q =>
      obtain ⟨k, l⟩ := q
      rw [hS] at this
      exact ⟨by rw [(hO 17 s rfl).1]; exact this.1, by rw [(hO 18 s rfl).1]; exact this.2.1, fun i v hi => by rw [(hO 19 _ rfl).2.1]; exact this.2.2 i v hi⟩
def wZ2 (k j : Nat) : Bool := decide (k = 12 ∨ (k = 0 ∧ j = 24))
theorem rZ_w {n k j : Nat} (h : wZ2 k j = false) : rZ n k j = false := by simp [wZ2, rZ] at h ⊢; omega
theorem mSt.w2 {S : St} {G G' : gP} (h : mSt S G) (hO : gOff wZ2 G G') : mSt S G' := h.now' hO (fun k j hk => by simp [wZ2]; omega) (h.now.off hO (fun j => by simp [wZ2]))
def slP (G : gP) (sl : List (List (Nat × Nat))) : Prop := ∀ i s, sl[i]? = some s → mSlR G i s
/-- slots one behind the other -/
theorem wordsL_ok {G : gP} {t : List Nat} {q0 : Nat} {y : Int32} (ht : tok t) (h : mTp G t q0) (R : Nat ⊕ (List (List (Nat × Nat)) × Nat)) (hy : (y = 0 ∧ R = .inr ([], q0)) ∨ (y = 1 ∧ R = wds t 8 q0 [])) : Ok (gloop (f_X11_words_b20) gFu (G, (0 : Int32), y)) (fun z => match z with
    | .inl r => gOff wZ2 G r.1 ∧ ∃ sl q, R = .inr (sl, q) ∧ r.2 = nI sl.length ∧ mTp r.1 t q ∧ slP r.1 sl
    | .inr r => ∃ e G1, R = .inl e ∧ r.2 = -20 - nI e ∧ gOff wZ2 G G1 ∧ r.1 = gS1 G1 0 23 0) := by
  refine Ok.loop (fun f s => gOff wZ2 G s.1 ∧ ((f = 0 ∧ s.2.2 = 0 ∧ ∃ sl q, R = .inr (sl, q) ∧ s.2.1 = nI sl.length ∧ mTp s.1 t q ∧ slP s.1 sl) ∨ (0 < f ∧ s.2.2 = 1 ∧ ∃ p acc, acc.length + f = 8 ∧ R = wds t f p acc ∧ s.2.1 = nI acc.length ∧ mTp s.1 t p ∧ slP s.1 acc ∧ ∀ x ∈ acc, slOk x))) ?_ gFu (if y = 0 then 0 else 8) _ (by unfold gFu; split <;> omega) ?_
  · rintro f ⟨G1, x, m⟩ ⟨hO, hJ⟩
    simp only at hO hJ
    rcases hJ with ⟨rfl, rfl, sl, q, he, rfl, hT, hS⟩ | ⟨hf, rfl, p, acc, hlen, he, rfl, hT, hS, hok⟩
    · unfold f_X11_words_b20
      simp only
      rw [if_pos trivial]
      exact ⟨_, rfl, hO, sl, q, he, rfl, hT, hS⟩
    · obtain ⟨f, rfl⟩ : ∃ f', f = f' + 1 := ⟨f - 1, by omega⟩
      unfold f_X11_words_b20
      simp only
      rw [if_neg (by decide)]
      refine Ok.bind (reads_ok ht hT (show acc.length < 8 by omega)) (fun r hr => ?_)
      obtain ⟨G2, x2⟩ := r
      obtain ⟨hO2, hr⟩ := hr
      simp only at hO2 hr ⊢
      have hsok := slt_ok ht 4 p [] hT.2.2.2 rfl (by omega) (fun x hx => by cases hx) (by simp)
      have hw : wds t (f + 1) p acc = match slt t 4 p [] with
        | .inl e => .inl e
        | .inr (s, q) => if f = 0 then .inr (acc ++ [s], q) else if ltr t (skp t q) = 59 then wds t f (skp t q + 1) (acc ++ [s]) else .inr (acc ++ [s], skp t q) := rfl
      have hOO : gOff wZ2 G G2 := hO.tr (hO2.w (fun k j => rZ_w))
      cases hs : slt t 4 p [] with
      | inl e =>
        rw [hs] at hr hsok hw
        simp only at hr hsok hw
        rw [hr.1, if_pos rfl, fault_ok ht hr.2 hsok.2, obind_some]
        exact ⟨_, rfl, e, G2, he.trans hw, rfl, hOO, rfl⟩
      | inr sq =>
        obtain ⟨s, q⟩ := sq
        rw [hs] at hr hsok hw
        simp only at hr hsok hw
        obtain ⟨hr1, hT2, hS2⟩ := hr
        rw [hr1, if_neg (by decide), nI_1]
        have hS3 : ∀ G3, gOff (fun k j => decide (k = 0 ∧ j = 24)) G2 G3 → slP G3 (acc ++ [s]) := by
          intro G3 hO3 i s' hi
          by_cases e : i = acc.length
          · subst e
            rw [List.getElem?_append_right (Nat.le_refl _), Nat.sub_self] at hi
            cases hi
            exact hS2.off hsok.1.2.1 hO3 (fun j _ _ => by simp)
          · have hil : i < acc.length := by have := (List.getElem?_eq_some_iff.mp hi).1; simp at this; omega
            rw [List.getElem?_append_left hil] at hi
            have h4 := (hok s' (List.mem_of_getElem? hi)).2.1
            exact ((hS i s' hi).off h4 hO2 (fun j a b => by simp [rZ]; omega)).off h4 hO3 (fun j _ _ => by simp)
        have hok' : ∀ x ∈ acc ++ [s], slOk x := by
          intro x hx
          rw [List.mem_append, List.mem_singleton] at hx
          rcases hx with hx | rfl
          · exact hok x hx
          · exact hsok.1
        have hlen' : (acc ++ [s]).length = acc.length + 1 := by rw [List.length_append, List.length_singleton]
        by_cases hf0 : f = 0
        · rw [if_pos hf0] at hw
          rw [if_pos (show (8 : Int32) ≤ nI (acc.length + 1) from nI_le (a := 8) (by omega) (by omega))]
          refine ⟨_, rfl, 0, by omega, hOO, Or.inl ⟨rfl, rfl, _, _, he.trans hw, ?_, hT2, hS3 _ gOff.rf⟩⟩
          show nI (acc.length + 1) = _
          rw [hlen']
        · rw [if_neg hf0] at hw
          rw [if_neg (show ¬ (8 : Int32) ≤ nI (acc.length + 1) from nI_ge (b := 8) (by omega) (by decide)), show (59 : Int32) = nI 59 from rfl, has_ok ht hT2 (by decide), obind_some]
          have hle := skp_le hT2.2.2.2
          by_cases h59 : ltr t (skp t q) = 59
          · rw [if_pos h59] at hw ⊢
            have hin := ht.in (p := skp t q) (by omega)
            simp only
            rw [if_neg (by decide)]
            refine ⟨_, rfl, f, by omega, hOO.S1 (by simp [wZ2]), Or.inr ⟨by omega, rfl, skp t q + 1, acc ++ [s], by omega, he.trans hw, ?_, hT2.pl (by omega), hS3 _ (gOff.rf.S1 (by simp)), hok'⟩⟩
            show nI (acc.length + 1) = _
            rw [hlen']
          · rw [if_neg h59] at hw ⊢
            simp only
            rw [if_pos trivial]
            refine ⟨_, rfl, 0, by omega, hOO.S1 (by simp [wZ2]), Or.inl ⟨rfl, rfl, _, _, he.trans hw, ?_, hT2.pl hle, hS3 _ (gOff.rf.S1 (by simp))⟩⟩
            show nI (acc.length + 1) = _
            rw [hlen']
  · refine ⟨gOff.rf, ?_⟩
    rcases hy with ⟨rfl, hR⟩ | ⟨rfl, hR⟩
    · rw [if_pos rfl]
      exact Or.inl ⟨rfl, rfl, [], q0, hR, rfl, h, fun i s hi => by cases hi⟩
    · rw [if_neg (by decide)]
      exact Or.inr ⟨by omega, rfl, q0, [], rfl, hR, rfl, h, fun i s hi => (by cases hi), fun x hx => by cases hx⟩
/-- a row stays if what is written there isn't of it -/
theorem mRow.wr {G : gP} {L : Lt} (hL : L.Wf) (h : mRow G 1 0 L) {s k x : Nat} {v : Int32} (hk : L.m s ≤ k) (hk4 : k < 4) (hx : x = 4 + 9 * s + 1 + k ∨ x = 4 + 9 * s + 5 + k) : mRow (gS1 G 1 x v) 1 0 L := by
  refine mRow.of ?_ ?_ ?_ ?_ (fun i hi => ?_)
  · rw [gS_ne (by omega)]; exact h.1
  · rw [gS_ne (by omega)]; exact h.2.1
  · rw [gS_ne (by omega)]; exact h.2.2.1
  · rw [gS_ne (by omega)]; exact h.2.2.2.1
  · have hs := h.sl hi
    have hm := hL.m1 i hi
    by_cases e : i = s
    · subst e
      exact ⟨by rw [gS_ne (by omega)]; exact hs.1, fun j hj => ⟨by rw [gS_ne (by omega)]; exact (hs.2 j hj).1, by rw [gS_ne (by omega)]; exact (hs.2 j hj).2⟩⟩
    · exact ⟨by rw [gS_ne (by omega)]; exact hs.1, fun j hj => ⟨by rw [gS_ne (by omega)]; exact (hs.2 j hj).1, by rw [gS_ne (by omega)]; exact (hs.2 j hj).2⟩⟩
theorem layZ_ok {G : gP} {L : Lt} (hL : L.Wf) (h : mRow G 1 0 L) : Ok (gloop (f_X11_words_b119 (G, nI L.n)) gFu (G, (0 : Int32))) (fun G' => gOff nowZ G G' ∧ mRow G' 1 0 L) := by
  have h8 := hL.n8
  refine Ok.up (fun i s => s.2 = nI i ∧ gOff nowZ G s.1 ∧ mRow s.1 1 0 L) L.n (by omega) ?_ ?_ ⟨rfl, gOff.rf, h⟩
  · rintro i ⟨G1, x⟩ hi ⟨hx, hO, hr⟩
    simp only at hx hO hr
    subst hx
    unfold f_X11_words_b119
    simp only
    have hm := hL.m1 i hi
    rw [if_neg (nI_ge hi (by omega)), at_nI, gIn_t (by omega) (by omega), gck_t, nI_clamp (by omega), (hr.sl hi).1]
    simp only [gLet_e]
    refine Ok.bind (Q := fun G2 => gOff nowZ G G2 ∧ mRow G2 1 0 L) ?_ (fun G2 h2 => ⟨_, rfl, nI_1 i, h2⟩)
    refine Ok.up (fun j s => s.2 = nI (L.m i + j) ∧ gOff nowZ G s.1 ∧ mRow s.1 1 0 L) (4 - L.m i) (by omega) ?_ ?_ ⟨rfl, hO, hr⟩
    · rintro j ⟨G2, x⟩ hj ⟨hx, hO2, hr2⟩
      simp only at hx hO2 hr2
      subst hx
      unfold f_X11_words_b136
      simp only
      have a1 : nI (4 + 9 * i) + 1 + nI (L.m i + j) = nI (4 + 9 * i + 1 + (L.m i + j)) := by rw [nI_1, nI_add]
      have a5 : nI (4 + 9 * i) + 5 + nI (L.m i + j) = nI (4 + 9 * i + 5 + (L.m i + j)) := by rw [show nI (4 + 9 * i) + 5 = nI (4 + 9 * i + 5) from nI_add _ 5, nI_add]
      rw [if_neg (show ¬ (4 : Int32) ≤ nI (L.m i + j) from nI_ge (b := 4) (by omega) (by decide)), at_nI, a1, a5, gIn_t (show 4 + 9 * i + 1 + (L.m i + j) < 2 ^ 31 by omega) (by omega), gck_t, gIn_t (show 4 + 9 * i + 5 + (L.m i + j) < 2 ^ 31 by omega) (by omega), nI_clamp (show 4 + 9 * i + 1 + (L.m i + j) < 2 ^ 31 by omega), nI_clamp (show 4 + 9 * i + 5 + (L.m i + j) < 2 ^ 31 by omega)]
      simp only [gLet_e, gck_t]
      refine ⟨_, rfl, nI_1 _, (hO2.S1 rfl).S1 rfl, ?_⟩
      exact mRow.wr hL (mRow.wr hL hr2 (s := i) (k := L.m i + j) (by omega) (by omega) (Or.inl rfl)) (s := i) (k := L.m i + j) (by omega) (by omega) (Or.inr rfl)
    · rintro ⟨G2, x⟩ ⟨hx, hO2, hr2⟩
      simp only at hx hO2 hr2
      subst hx
      unfold f_X11_words_b136
      simp only
      rw [if_pos (show (4 : Int32) ≤ nI (L.m i + (4 - L.m i)) from nI_le (a := 4) (by omega) (by omega))]
      exact ⟨_, rfl, hO2, hr2⟩
  · rintro ⟨G1, x⟩ ⟨hx, hO, hr⟩
    simp only at hx hO hr
    subst hx
    unfold f_X11_words_b119
    simp only
    rw [if_pos (nI_le (Nat.le_refl _) (by omega))]
    exact ⟨_, rfl, hO, hr⟩
theorem words_ok {S : St} {G : gP} (hW : S.Wf) (h : mSt S G) : Ok (f_X11_words G) (mA (sWords S)) := by
  have ht : tok S.tape := hW.tape
  have hl := ht.1
  unfold f_X11_words sWords
  have hT0 : mTp (plc G 0) S.tape 0 := ⟨by rw [plc_S _ _ _ _ (by decide)]; exact h.tp, gS_at, h.tape.S1 (Or.inl (by decide)), Nat.zero_le _⟩
  have hm0 : mSt S (plc G 0) := h.w2 (gOff.rf.S1 (by simp [wZ2]))
  show Ok (gLet (plc G 0) _) _
  simp only [gLet_e]
  rw [here_ok ht hT0, pl_pl, obind_some]
  simp only
  have hle0 := skp_le (t := S.tape) (Nat.zero_le S.tape.length)
  have hT1 : mTp (plc G (skp S.tape 0)) S.tape (skp S.tape 0) := by have := hT0.pl hle0; rwa [pl_pl] at this
  have hm1 : mSt S (plc G (skp S.tape 0)) := h.w2 (gOff.rf.S1 (by simp [wZ2]))
  generalize plc G (skp S.tape 0) = G1 at *
  have hlt0 := ht.lt (skp S.tape 0)
  have hy : ∃ y R, y = (if nI (ltr S.tape (skp S.tape 0)) = 0 then (0 : Int32) else 1) ∧ ((y = 0 ∧ R = (.inr ([], skp S.tape 0) : Nat ⊕ (List (List (Nat × Nat)) × Nat))) ∨ (y = 1 ∧ R = wds S.tape 8 (skp S.tape 0) [])) ∧ prs S.tape = (match R with | .inl e => .inl e | .inr (sl, q) => if skp S.tape q < S.tape.length then .inl (skp S.tape q) else .inr sl) ∧ (∀ sl q, R = .inr (sl, q) → sl.length ≤ 8 ∧ (∀ s ∈ sl, slOk s) ∧ q ≤ S.tape.length) := by
    by_cases e0 : skp S.tape 0 = S.tape.length
    · refine ⟨_, _, rfl, Or.inl ⟨?_, rfl⟩, ?_, fun sl q e => ?_⟩
      · rw [e0, ltr_ge (Nat.le_refl _), if_pos (show nI 0 = 0 from rfl)]
      · unfold prs
        rw [if_pos e0]
        simp only
        rw [skp_id, if_neg (by omega)]
      · cases e; exact ⟨by simp, fun s hs => (by cases hs), hle0⟩
    · have hin : skp S.tape 0 < S.tape.length := by omega
      have := ht.lb hin
      refine ⟨_, _, rfl, Or.inr ⟨?_, rfl⟩, ?_, fun sl q e => ?_⟩
      · rw [if_neg (nI_ne0 (by omega) (by omega))]
      · unfold prs
        rw [if_neg e0]
        cases wds S.tape 8 (skp S.tape 0) [] with
        | inl e => rfl
        | inr x => obtain ⟨sl, q⟩ := x; rfl
      · have := wds_ok ht 8 (skp S.tape 0) [] hle0 rfl (fun s hs => by cases hs)
        rw [e] at this
        exact ⟨this.2.1, this.1, this.2.2⟩
  obtain ⟨y, R, hy1, hy2, hprs, hok⟩ := hy
  rw [← hy1, hprs]
  refine Ok.bind (wordsL_ok ht hT1 R hy2) (fun z hz => ?_)
  cases z with
  | inr r =>
    obtain ⟨G2, x2⟩ := r
    obtain ⟨e, G1', hR, hx, hO, hG⟩ := hz
    simp only at hx hG
    subst hG hx
    rw [hR]
    exact ⟨_, rfl, (hm1.w2 hO).tape0, rfl⟩
  | inl r =>
    obtain ⟨G2, x2⟩ := r
    obtain ⟨hO, sl, q, hR, hx, hT2, hS2⟩ := hz
    simp only at hO hx hT2 hS2
    subst hx
    obtain ⟨h8, hsl, hql⟩ := hok sl q hR
    rw [hR]
    show Ok ((f_X11_here G2).bind _) _
    rw [here_ok ht hT2, obind_some]
    simp only
    have hm2 : mSt S G2 := hm1.w2 hO
    have hleq := skp_le hql
    have hltq := ht.lt (skp S.tape q)
    have hT3 := hT2.pl hleq
    have hm3 : mSt S (plc G2 (skp S.tape q)) := hm2.w2 (gOff.rf.S1 (by simp [wZ2]))
    by_cases hend : skp S.tape q < S.tape.length
    · have hb := ht.lb hend
      rw [if_neg (nI_ne0 (by omega) (by omega)), if_pos hend, fault_ok ht hT3 (skp_id _ _), obind_some]
      exact ⟨_, rfl, hm3.tape0, rfl⟩
    · rw [ltr_ge (show S.tape.length ≤ skp S.tape q by omega), if_pos (show nI 0 = 0 from rfl), if_neg hend]
      have hS3 : slP (plc G2 (skp S.tape q)) sl := fun i s hi => (hS2 i s hi).off (hsl s (List.mem_of_getElem? hi)).2.1 (Z := fun k _ => decide (k = 0)) (gOff.rf.S1 (by simp)) (fun j _ _ => by simp)
      generalize plc G2 (skp S.tape q) = G3 at *
      refine Ok.bind (clears_ok hm3.now) (fun G4 h4 => ?_)
      obtain ⟨hO4, hr4⟩ := h4
      simp only [gLet_e]
      -- the slots are copied
      have hWf := hW.now.lay h8 hsl
      refine Ok.bind (Q := fun G5 => gOff nowZ G3 G5 ∧ mRow G5 1 0 (S.now.lay sl)) ?_ (fun G5 h5 => ?_)
      · have e9 : (9 : Int32) * nI sl.length = nI (9 * sl.length) := pk_mul 9 _
        have hcp : Ok (gloop (f_X11_words_b89 (G2, nI sl.length)) gFu (gS1 G4 1 0 (nI sl.length), (0 : Int32))) (fun G' => gOff (fun k j => decide (k = 1 ∧ 4 ≤ j)) (gS1 G4 1 0 (nI sl.length)) G' ∧ ∀ j, j < 9 * sl.length → gS G' 1 (4 + j) = gS G4 12 j) := by
          refine Ok.up (fun i s => s.2 = nI i ∧ gOff (fun k j => decide (k = 1 ∧ 4 ≤ j)) (gS1 G4 1 0 (nI sl.length)) s.1 ∧ ∀ j, j < i → gS s.1 1 (4 + j) = gS G4 12 j) (9 * sl.length) (by omega) ?_ ?_ ⟨rfl, gOff.rf, fun j hj => by omega⟩
          · rintro i ⟨G5, x⟩ hi ⟨hx, hO5, hc⟩
            simp only at hx hO5 hc
            subst hx
            unfold f_X11_words_b89
            simp only
            have a4 : (4 : Int32) + nI i = nI (4 + i) := nI_add 4 i
            rw [e9, if_neg (nI_ge hi (by omega)), gIn_t (show i < 2 ^ 31 by omega) (by omega), gck_t, a4, gIn_t (show 4 + i < 2 ^ 31 by omega) (by omega), gck_t, nI_clamp (by omega), nI_clamp (by omega), (hO5 12 i (by simp)).1, gS_ne (by omega)]
            refine ⟨_, rfl, nI_1 i, hO5.S1 (by simp), fun j hj => ?_⟩
            simp only [gLet_e]
            by_cases e : j = i
            · subst e; rw [gS_at]
            · rw [gS_ne (by omega)]; exact hc j (by omega)
          · rintro ⟨G5, x⟩ ⟨hx, hO5, hc⟩
            simp only at hx hO5 hc
            subst hx
            unfold f_X11_words_b89
            simp only
            rw [e9, if_pos (nI_le (Nat.le_refl _) (by omega))]
            exact ⟨_, rfl, hO5, hc⟩
        refine hcp.imp ?_
        rintro G5 ⟨hO5, hc5⟩
        refine ⟨(hO4.S1 rfl).tr (hO5.w (fun k j z => by simp [nowZ] at z ⊢; omega)), mRow.of ?_ ?_ ?_ ?_ (fun i hi => ?_)⟩
        · rw [(hO5 1 0 (by simp)).1, gS_at]; rfl
        · rw [(hO5 1 1 (by simp)).1, gS_ne (by decide)]; exact hr4.2.1
        · rw [(hO5 1 2 (by simp)).1, gS_ne (by decide)]; exact hr4.2.2.1
        · rw [(hO5 1 3 (by simp)).1, gS_ne (by decide)]; exact hr4.2.2.2.1
        · have hi' : i < sl.length := hi
          have hsi := hS3 i _ (getD_mem [] hi')
          have h4 := (hsl _ (List.mem_of_getElem? (getD_mem [] hi'))).2.1
          have e12 : ∀ j, gS G4 12 j = gS G3 12 j := fun j => (hO4 12 j (by simp [nowZ])).1
          refine ⟨?_, fun j hj => ?_⟩
          · rw [hc5 _ (by omega), e12]; exact hsi.1
          · have hj' : j < (sl.getD i []).length := hj
            have := hsi.2 j _ (getD_mem (0, 0) hj')
            refine ⟨?_, ?_⟩
            · rw [show 5 + 9 * i + j = 4 + (9 * i + 1 + j) by omega, hc5 _ (by omega), e12]; exact this.1
            · rw [show 9 + 9 * i + j = 4 + (9 * i + 5 + j) by omega, hc5 _ (by omega), e12]; exact this.2
      · obtain ⟨hO5, hr5⟩ := h5
        have hz := layZ_ok hWf hr5
        have hz' : Ok (gloop (f_X11_words_b119 (G2, nI sl.length)) gFu (G5, (0 : Int32))) (fun G' => gOff nowZ G5 G' ∧ mRow G' 1 0 (S.now.lay sl)) := hz
        refine Ok.bind hz' (fun G6 h6 => ?_)
        have hm6 : mSt (St.of (S.now.lay sl) (S.past) (S.kept) (S.tape) (S.sh)) G6 := hm3.now' (hO5.tr h6.1) (fun _ _ hk => nowZ_k hk) h6.2
        exact ⟨_, rfl, hm6.past0.tape0, rfl⟩
end
section
/-! the component reads a tape -/
def xTp (G : gP) (t : List Nat) (p : Nat) : Prop := gS G 0 11 = nI t.length ∧ gS G 0 12 = nI p ∧ aL G 9 0 t ∧ p ≤ t.length
def xpl (G : gP) (p : Nat) : gP := gS1 G 0 12 (nI p)
theorem xpl_xpl (G : gP) (p q : Nat) : xpl (xpl G p) q = xpl G q := gS1_1
theorem xTp.pl {G : gP} {t : List Nat} {p q : Nat} (h : xTp G t p) (hq : q ≤ t.length) : xTp (xpl G q) t q := ⟨by unfold xpl; rw [gS_ne (by decide)]; exact h.1, gS_at, h.2.2.1.S1 (Or.inl (by decide)), hq⟩
theorem xTp.id {G : gP} {t : List Nat} {p : Nat} (h : xTp G t p) : xpl G p = G := gS1_id h.2.1
theorem xTp.at {G : gP} {t : List Nat} {p : Nat} (h : xTp G t p) {j : Nat} (hj : j < t.length) : gS G 9 j = nI (ltr t j) := by
  have := h.2.2.1 j _ (ltr_at hj)
  rwa [Nat.zero_add] at this
theorem xTp.off {Z : Nat → Nat → Bool} {G G' : gP} {t : List Nat} {p : Nat} (h : xTp G t p) (hO : gOff Z G G') (z : ∀ k j, (k = 0 ∧ (j = 11 ∨ j = 12)) ∨ k = 9 → Z k j = false) : xTp G' t p :=
  ⟨by rw [(hO 0 11 (z _ _ (by omega))).1]; exact h.1, by rw [(hO 0 12 (z _ _ (by omega))).1]; exact h.2.1, fun j v hj => by rw [(hO 9 _ (z _ _ (by omega))).1]; exact h.2.2.1 j v hj, h.2.2.2⟩
/-- the letter here; -1: the end -/
def lI (t : List Nat) (q : Nat) : Int32 := if q < t.length then nI (ltr t q) else -1
theorem next_ok {G : gP} {t : List Nat} {p : Nat} (ht : tok t) (h : xTp G t p) : f_X0_nextLetter G = some (xpl G (skp t p), lI t (skp t p)) := by
  have hl := ht.1
  have hloop : Ok (gloop (f_X0_nextLetter_b0) gFu G) (fun G' => G' = xpl G (skp t p)) := by
    refine Ok.loop (fun n s => ∃ p', n + p' = t.length ∧ s = xpl G p' ∧ skp t p' = skp t p) ?_ gFu (t.length - p) _ (by unfold gFu; omega) ⟨p, by have := h.2.2.2; omega, h.id.symm, rfl⟩
    rintro n s ⟨p', hn, rfl, hs⟩
    have h' : xTp (xpl G p') t p' := h.pl (by omega)
    unfold f_X0_nextLetter_b0
    rw [h'.1, h'.2.1]
    cases n with
    | zero =>
      rw [if_pos (nI_le (by omega) (by omega))]
      refine ⟨_, rfl, ?_⟩
      simp only
      rw [← hs, skp_n (by rw [ltr_ge (by omega)]; decide)]
    | succ n =>
      have hlt := ht.lt p'
      rw [if_neg (nI_ge (by omega) (by omega)), gIn_t (by omega) (by omega), gck_t, nI_clamp (by omega), h'.at (by omega)]
      by_cases e : ltr t p' = 32
      · rw [e, if_pos (show nI 32 = 32 from rfl), nI_1]
        refine ⟨_, rfl, n, by omega, p' + 1, by omega, xpl_xpl G p' (p' + 1), ?_⟩
        rw [← skp_s (by omega) e]; exact hs
      · rw [if_neg (show ¬ nI (ltr t p') = 32 from fun z => e ((nI_eq (b := 32) (by omega) (by decide)).mp z))]
        refine ⟨_, rfl, ?_⟩
        simp only
        rw [← hs, skp_n e]
  obtain ⟨G', e, rfl⟩ := hloop
  unfold f_X0_nextLetter lI
  rw [e, obind_some]
  have hle := skp_le h.2.2.2
  have h' := h.pl hle
  rw [h'.1, h'.2.1]
  by_cases hq : skp t p < t.length
  · rw [if_neg (nI_ge hq (by omega)), if_pos hq, gIn_t (by omega) (by omega), gck_t, nI_clamp (by omega), h'.at hq]
  · rw [if_pos (nI_le (by omega) (by omega)), if_neg hq]
theorem lI_eq {t : List Nat} (ht : tok t) {q c : Nat} (hc0 : 0 < c) (hc : c < 2 ^ 31) : lI t q = nI c ↔ ltr t q = c := by
  unfold lI
  have hlt := ht.lt q
  by_cases hq : q < t.length
  · rw [if_pos hq, nI_eq (by omega) hc]
  · rw [if_neg hq, ltr_ge (by omega)]
    refine ⟨fun z => ?_, fun z => by omega⟩
    have := congrArg Int32.toInt z
    rw [nI_toInt hc] at this
    have e : ((-1 : Int32)).toInt = -1 := by decide
    omega
theorem sign_ok {G : gP} {t : List Nat} {p c : Nat} (ht : tok t) (h : xTp G t p) (hc0 : 0 < c) (hc : c < 2 ^ 31) : f_X0_isSign G (nI c) = some (if ltr t (skp t p) = c then (xpl G (skp t p + 1), 1) else (xpl G (skp t p), 0)) := by
  unfold f_X0_isSign
  rw [next_ok ht h, obind_some]
  have h' := h.pl (skp_le h.2.2.2)
  simp only
  by_cases e : ltr t (skp t p) = c
  · rw [if_pos ((lI_eq ht hc0 hc).mpr e), if_pos e]
    simp only [gLet_e]
    rw [h'.2.1, nI_1]
    show some (xpl (xpl G _) _, _) = _
    rw [xpl_xpl]
  · rw [if_neg (fun z => e ((lI_eq ht hc0 hc).mp z)), if_neg e]
theorem faulty_ok {G : gP} {t : List Nat} {e : Nat} (ht : tok t) (h : xTp G t e) (hs : skp t e = e) : f_X0_faulty G = some (gS1 G 8 6 (nI e)) := by
  unfold f_X0_faulty
  rw [next_ok ht h, hs, h.id, obind_some]
  simp only [gLet_e]
  rw [h.2.1]
theorem xisD_in {c : Nat} (h : c < 2 ^ 31) : f_X0_isIn (nI c).toInt64 48 57 = bI (isD c) := isD_in h
theorem figure_ok {G : gP} {t : List Nat} {p : Nat} (ht : tok t) (h : xTp G t p) : f_X0_isFigure G = some (bI (isD (ltr t p))) := by
  unfold f_X0_isFigure
  have hl := ht.1
  have hlt := ht.lt p
  have h2 := h.2.2.2
  rw [h.1, h.2.1]
  by_cases hp : p < t.length
  · rw [if_neg (nI_ge hp (by omega)), gIn_t (by omega) (by omega), gck_t, nI_clamp (by omega), h.at hp, xisD_in (by omega)]
    cases isD (ltr t p)
    · rw [if_pos (show bI false = 0 from rfl)]; rfl
    · rw [if_neg (show ¬ bI true = 0 by decide)]; rfl
  · rw [if_pos (nI_le (by omega) (by omega)), ltr_ge (by omega)]; rfl
theorem xwordOf_ok {t : List Nat} (ht : tok t) (q : Nat) : f_X0_wordOf (lI t q) = oW (ltW (ltr t q)) := by
  unfold lI
  have hlt := ht.lt q
  by_cases hq : q < t.length
  · rw [if_pos hq]
    exact letter_ok (by omega)
  · rw [if_neg hq, ltr_ge (by omega)]; decide
theorem xwordBy_ok {v : Nat} (h : v ≤ 99) : f_X0_wordBy (nI v) = oW (wBy v) := by
  unfold f_X0_wordBy
  rw [isIn_in, in_nI (by omega) 1 19 1 19 rfl rfl, in_nI (by omega) 20 90 20 90 rfl rfl, show (10 : Int32) = nI 10 from rfl, gRem_nI (by omega) (by decide) (by decide), pk_div (by omega) (by decide) (by decide)]
  unfold wBy
  by_cases h1 : 1 ≤ v ∧ v ≤ 19
  · rw [if_pos h1, if_neg (by decide), if_pos h1]; rfl
  · rw [if_neg h1, if_pos rfl, if_neg h1]
    by_cases h3 : v % 10 = 0
    · rw [if_pos ((nI_eq0 (by omega)).mpr h3)]
      by_cases h2 : 20 ≤ v ∧ v ≤ 90
      · rw [if_pos h2, if_neg (by decide), if_pos ⟨h2.1, h3⟩, Nat.add_comm 18]; exact nI_add _ 18
      · rw [if_neg h2, if_pos rfl, if_neg (fun z => h2 ⟨z.1, by omega⟩)]; rfl
    · rw [if_neg (fun z => h3 ((nI_eq0 (by omega)).mp z)), if_neg (fun z => h3 z.2)]; rfl
/-- figures here -/
theorem number2_ok {G : gP} {t : List Nat} {q : Nat} (ht : tok t) (h : xTp G t q) (hd : isD (ltr t q) = true) : f_X0_readNumber G = some (if isD (ltr t (q + 1)) = true then (xpl G (q + 2), nI (10 * (ltr t q - 48) + (ltr t (q + 1) - 48))) else (xpl G (q + 1), nI (ltr t q - 48))) := by
  have hl := ht.1
  have b1 := (isD_iff _).mp hd
  have hqi := ht.in (p := q) (by omega)
  have h1 : xTp (xpl G (q + 1)) t (q + 1) := h.pl (by omega)
  have hz : nI (ltr t q - 48) = (10 : Int32) * 0 + nI (ltr t q) - 48 := by
    rw [show (10 : Int32) * 0 = nI 0 from rfl, nI_add, Nat.zero_add, show (48 : Int32) = nI 48 from rfl, pk_sub b1.1]
  have f : gFu = (gFu - 3) + 1 + 1 + 1 := by unfold gFu; rfl
  have s0 : f_X0_readNumber_b4 (G, (0 : Int32), (0 : Int32)) = some (Sum.inl (xpl G (q + 1), nI (ltr t q - 48), nI 1)) := by
    unfold f_X0_readNumber_b4
    simp only
    rw [if_neg (by decide), figure_ok ht h, hd, obind_some, if_neg (show ¬ bI true = 0 by decide), h.2.1, gIn_t (by omega) (by omega), gck_t, nI_clamp (by omega), h.at hqi, nI_1, ← hz]
    rfl
  unfold f_X0_readNumber
  cases hd2 : isD (ltr t (q + 1)) with
  | false =>
    have s1 : f_X0_readNumber_b4 (xpl G (q + 1), nI (ltr t q - 48), nI 1) = some (Sum.inr (xpl G (q + 1), nI (ltr t q - 48))) := by
      unfold f_X0_readNumber_b4
      simp only
      rw [if_neg (show ¬ (2 : Int32) ≤ nI 1 by decide), figure_ok ht h1, hd2, obind_some, if_pos (show bI false = 0 from rfl)]
    have : gloop (f_X0_readNumber_b4) gFu (G, (0 : Int32), (0 : Int32)) = some (xpl G (q + 1), nI (ltr t q - 48)) := by
      rw [f]
      show (f_X0_readNumber_b4 (G, (0 : Int32), (0 : Int32))).bind _ = _
      rw [s0, obind_some]
      show gloop (f_X0_readNumber_b4) ((gFu - 3) + 1 + 1) (xpl G (q + 1), nI (ltr t q - 48), nI 1) = _
      show (f_X0_readNumber_b4 (xpl G (q + 1), nI (ltr t q - 48), nI 1)).bind _ = _
      rw [s1]; rfl
    rw [this, if_neg (by decide)]; rfl
  | true =>
    have b2 := (isD_iff _).mp hd2
    have hqi2 := ht.in (p := q + 1) (by omega)
    have s1 : f_X0_readNumber_b4 (xpl G (q + 1), nI (ltr t q - 48), nI 1) = some (Sum.inl (xpl G (q + 2), nI (10 * (ltr t q - 48) + (ltr t (q + 1) - 48)), nI 2)) := by
      unfold f_X0_readNumber_b4
      simp only
      rw [if_neg (show ¬ (2 : Int32) ≤ nI 1 by decide), figure_ok ht h1, hd2, obind_some, if_neg (show ¬ bI true = 0 by decide), h1.2.1, gIn_t (by omega) (by omega), gck_t, nI_clamp (by omega), h1.at hqi2, nI_1, nI_1]
      simp only [gLet_e]
      have e2 : (10 : Int32) * nI (ltr t q - 48) + nI (ltr t (q + 1)) - 48 = nI (10 * (ltr t q - 48) + (ltr t (q + 1) - 48)) := by
        rw [show (10 : Int32) = nI 10 from rfl, pk_mul, nI_add, show (48 : Int32) = nI 48 from rfl, pk_sub (by omega)]
        apply nI_inj; omega
      rw [e2]
      show some (Sum.inl (xpl (xpl G (q + 1)) (q + 2), _, _)) = _
      rw [xpl_xpl]
    have s2 : ∀ v : Int32, f_X0_readNumber_b4 (xpl G (q + 2), v, nI 2) = some (Sum.inr (xpl G (q + 2), v)) := fun v => by
      unfold f_X0_readNumber_b4
      simp only
      rw [if_pos (show (2 : Int32) ≤ nI 2 by decide)]
    have : gloop (f_X0_readNumber_b4) gFu (G, (0 : Int32), (0 : Int32)) = some (xpl G (q + 2), nI (10 * (ltr t q - 48) + (ltr t (q + 1) - 48))) := by
      rw [f]
      show (f_X0_readNumber_b4 (G, (0 : Int32), (0 : Int32))).bind _ = _
      rw [s0, obind_some]
      show (f_X0_readNumber_b4 (xpl G (q + 1), nI (ltr t q - 48), nI 1)).bind _ = _
      rw [s1, obind_some]
      show (f_X0_readNumber_b4 (xpl G (q + 2), _, nI 2)).bind _ = _
      rw [s2]; rfl
    rw [this, if_pos rfl]; rfl
theorem xreadWord_ok {G : gP} {t : List Nat} {p : Nat} (ht : tok t) (h : xTp G t p) : match rdW t (skp t p) with
    | none => ∃ q', f_X0_readWord G = some (xpl G q', -4)
    | some (w, q') => f_X0_readWord G = some (xpl G q', nI w) := by
  have hle := skp_le h.2.2.2
  have h' := h.pl hle
  have hlt := ht.lt (skp t p)
  have hun : f_X0_readWord G = gLet (oW (ltW (ltr t (skp t p)))) fun x3 => if x3 < 0 then (if bI (isD (ltr t (skp t p))) = 0 then some (xpl G (skp t p), (-4 : Int32)) else (f_X0_readNumber (xpl G (skp t p))).bind fun q10 => some (q10.1, f_X0_wordBy q10.2)) else gLet (gS1 (xpl G (skp t p)) 0 12 ((gS (xpl G (skp t p)) 0 12) + (1 : Int32))) fun G12 => some (G12, x3) := by
    unfold f_X0_readWord
    rw [next_ok ht h, obind_some]
    simp only
    rw [xwordOf_ok ht, figure_ok ht h']
    rfl
  rw [hun]
  simp only [gLet_e]
  unfold rdW
  cases hd : isD (ltr t (skp t p)) with
  | false =>
    rw [if_neg (by decide)]
    cases hw : ltW (ltr t (skp t p)) with
    | none =>
      refine ⟨skp t p, ?_⟩
      rw [if_pos (show oW none < 0 by decide), if_pos (show bI false = 0 from rfl)]
    | some w =>
      have hwl := ltW_lt hw
      show (if nI w < 0 then _ else _) = _
      rw [if_neg (nI_pos (by omega)), h'.2.1, nI_1]
      show some (xpl (xpl G (skp t p)) (skp t p + 1), _) = _
      rw [xpl_xpl]; rfl
  | true =>
    have b1 := (isD_iff _).mp hd
    rw [if_pos rfl]
    have hw : ltW (ltr t (skp t p)) = none := by
      unfold ltW
      rw [if_neg (by omega), if_neg (by omega), if_neg (by omega), if_neg (by omega), if_neg (by omega)]
    rw [hw, if_pos (show oW none < 0 by decide), if_neg (show ¬ bI true = 0 by decide), number2_ok ht h' hd, obind_some]
    cases hd2 : isD (ltr t (skp t p + 1)) with
    | false =>
      rw [if_neg (by decide), if_neg (by decide), xpl_xpl]
      simp only
      rw [xwordBy_ok (by omega)]
      cases wBy (ltr t (skp t p) - 48) with
      | none => exact ⟨_, rfl⟩
      | some w => rfl
    | true =>
      have b2 := (isD_iff _).mp hd2
      rw [if_pos rfl, if_pos rfl, xpl_xpl]
      simp only
      rw [xwordBy_ok (by omega)]
      cases wBy (10 * (ltr t (skp t p) - 48) + (ltr t (skp t p + 1) - 48)) with
      | none => exact ⟨_, rfl⟩
      | some w => rfl
end
section
/-! the component's words -/
def wf (acc : List (Nat × Nat)) (j : Nat) : Nat := (acc.getD j (0, 0)).1
def cf (acc : List (Nat × Nat)) (j : Nat) : Nat := (acc.getD j (0, 0)).2
theorem getD_l {acc : List (Nat × Nat)} {x : Nat × Nat} {j : Nat} (h : j < acc.length) : (acc ++ [x]).getD j (0, 0) = acc.getD j (0, 0) := by
  rw [List.getD_eq_getElem?_getD, List.getD_eq_getElem?_getD, List.getElem?_append_left h]
theorem getD_r {acc : List (Nat × Nat)} {x : Nat × Nat} : (acc ++ [x]).getD acc.length (0, 0) = x := by
  rw [List.getD_eq_getElem?_getD, List.getElem?_append_right (Nat.le_refl _), Nat.sub_self]; rfl
theorem xSlt.ext {G : gP} {s m : Nat} {w c w' c' : Nat → Nat} (h : xSlt G s m w c) (hw : ∀ j, j < m → w j = w' j) (hc : ∀ j, j < m → c j = c' j) : xSlt G s m w' c' :=
  ⟨h.1, fun j hj => by rw [← hw j hj, ← hc j hj]; exact h.2 j hj⟩
def xAc (G : gP) (a : Nat) (acc : List (Nat × Nat)) : Prop := xSlt G a acc.length (wf acc) (cf acc)
theorem fnd_wf {acc : List (Nat × Nat)} {w : Nat} : fnd (wf acc) w acc.length = none ↔ w ∉ acc.map Prod.fst := by
  constructor
  · intro h hm
    rw [List.mem_map] at hm
    obtain ⟨x, hx, rfl⟩ := hm
    obtain ⟨k, hk, e⟩ := List.getElem_of_mem hx
    have := fnd_none _ h k hk
    apply this
    unfold wf
    have g := getD_mem (l := acc) (0, 0) hk
    rw [List.getElem?_eq_getElem hk] at g
    rw [← Option.some.inj g, e]
  · intro h
    cases hf : fnd (wf acc) w acc.length with
    | none => rfl
    | some i =>
      exfalso
      obtain ⟨h1, h2⟩ := fnd_some _ _ hf
      apply h
      rw [List.mem_map]
      exact ⟨acc.getD i (0, 0), List.mem_of_getElem? (getD_mem _ h1), h2⟩
def caZ (a k j : Nat) : Bool := decide ((a ≤ k ∧ k ≤ a + 2) ∨ (k = 0 ∧ j = 12) ∨ (k = 8 ∧ j = 6))
theorem addAc {G : gP} {a w c : Nat} {acc : List (Nat × Nat)} (h : xAc G a acc) (h4 : acc.length < 4) : Ok (f_X7_add G a (nI w) (nI c)) (fun G' => gOff (sZ a) G G' ∧ rSame G G' ∧ xAc G' a (acc ++ [(w, c)])) := by
  refine (add_ok h h4 w c).imp ?_
  rintro G' ⟨x, y, z⟩
  refine ⟨x, y, ?_⟩
  unfold xAc
  rw [List.length_append, List.length_singleton]
  refine z.ext (fun j hj => ?_) (fun j hj => ?_)
  · unfold setp wf
    by_cases e : j = acc.length
    · rw [if_pos e, e, getD_r]
    · rw [if_neg e, getD_l (by omega)]
  · unfold setp cf
    by_cases e : j = acc.length
    · rw [if_pos e, e, getD_r]
    · rw [if_neg e, getD_l (by omega)]
theorem xAc.off {Z : Nat → Nat → Bool} {G G' : gP} {a : Nat} {acc : List (Nat × Nat)} (h : xAc G a acc) (hO : gOff Z G G') (z : ∀ k j, a ≤ k → k ≤ a + 2 → Z k j = false) : xAc G' a acc := xSlt.off h hO z
theorem cand_ok {G : gP} {t : List Nat} {p a : Nat} {acc : List (Nat × Nat)} (ht : tok t) (h : xTp G t p) (ha : 32 ≤ a) (hA : xAc G a acc) (h4 : acc.length < 4) (hb : ∀ x ∈ acc, x.1 < 32 ∧ x.2 < 10) : Ok (f_X0_readCandidate G a) (fun r => gOff (caZ a) G r.1 ∧ rSame G r.1 ∧ match cnd t p (acc.map Prod.fst) with
    | .inl e => r.2 = true ∧ gS r.1 8 6 = nI e
    | .inr (w, c, q) => r.2 = false ∧ xTp r.1 t q ∧ xAc r.1 a (acc ++ [(w, c)])) := by
  unfold f_X0_readCandidate
  have hle := skp_le h.2.2.2
  have h' := h.pl hle
  have hlt := ht.lt (skp t p)
  rw [next_ok ht h, obind_some]
  simp only [gLet_e]
  have hO' : ∀ q', gOff (caZ a) G (xpl G q') := fun q' => gOff.rf.S1 (by simp [caZ])
  have hr' : ∀ q', rSame G (xpl G q') := fun q' => rSame.rf.S1
  have hA' : ∀ q', xAc (xpl G q') a acc := fun q' => hA.off (Z := fun k _ => decide (k = 0)) (gOff.rf.S1 (by simp)) (fun k j x y => by simp; omega)
  rw [h'.2.1]
  have bad : ∀ q', cnd t p (acc.map Prod.fst) = .inl (skp t p) → Ok ((f_X0_faulty (gS1 (xpl G q') 0 12 (nI (skp t p)))).bind fun q10 => some (q10, true)) (fun r : gP × Bool => gOff (caZ a) G r.1 ∧ rSame G r.1 ∧ match cnd t p (acc.map Prod.fst) with | .inl e => r.2 = true ∧ gS r.1 8 6 = nI e | .inr (w, c, q) => r.2 = false ∧ xTp r.1 t q ∧ xAc r.1 a (acc ++ [(w, c)])) := by
    intro q' hc
    have e1 : gS1 (xpl G q') 0 12 (nI (skp t p)) = xpl G (skp t p) := xpl_xpl G q' _
    rw [e1, faulty_ok ht h' (skp_id t p), obind_some, hc]
    exact ⟨_, rfl, (hO' _).S1 (by simp [caZ]), (hr' _).S1, rfl, gS_at⟩
  have hrw := xreadWord_ok ht h'
  rw [skp_id] at hrw
  unfold cnd at bad ⊢
  cases hr : rdW t (skp t p) with
  | none =>
    rw [hr] at hrw bad
    simp only at bad ⊢
    obtain ⟨q', hq'⟩ := hrw
    rw [hq', obind_some]
    simp only
    rw [if_pos (show (-4 : Int32) < 0 by decide), xpl_xpl]
    exact bad q' trivial
  | some wq =>
    obtain ⟨w, q1⟩ := wq
    rw [hr] at hrw bad
    simp only at hrw bad ⊢
    have hwq := rdW_lt ht hr
    rw [hrw, obind_some]
    simp only
    rw [if_neg (show ¬ nI w < 0 from nI_pos (by omega)), xpl_xpl]
    refine Ok.bind (find_ok (hA' q1) (by omega) (fun j hj => (hb _ (List.mem_of_getElem? (getD_mem (0, 0) hj))).1) (show w < 2 ^ 31 by omega)) (fun r hr2 => ?_)
    subst hr2
    by_cases hm : w ∈ acc.map Prod.fst
    · rw [if_pos hm] at bad ⊢
      cases hf : fnd (wf acc) w acc.length with
      | none => exact (fnd_wf.mp hf hm).elim
      | some i =>
        have hi := fnd_some _ _ hf
        rw [if_neg (show ¬ rI (some i) < 0 from nI_pos (by omega))]
        exact bad q1 rfl
    · rw [if_neg hm, fnd_wf.mpr hm, if_pos (show rI none < 0 by decide)]
      have hT1 : xTp (xpl G q1) t q1 := h.pl hwq.2.2
      have hle1 := skp_le hwq.2.2
      rw [show (58 : Int32) = nI 58 from rfl, sign_ok ht hT1 (by decide) (by decide), obind_some]
      by_cases h58 : ltr t (skp t q1) = 58
      · rw [if_pos h58, if_pos h58]
        have hin := ht.in (p := skp t q1) (by omega)
        have hT2 : xTp (xpl G (skp t q1 + 1)) t (skp t q1 + 1) := h.pl (by omega)
        have hle2 := skp_le hT2.2.2.2
        have hT3 : xTp (xpl G (skp t (skp t q1 + 1))) t (skp t (skp t q1 + 1)) := h.pl hle2
        have hlt3 := ht.lt (skp t (skp t q1 + 1))
        simp only
        rw [if_neg (by decide), xpl_xpl, next_ok ht hT2, xpl_xpl, obind_some]
        simp only
        cases hd : isD (ltr t (skp t (skp t q1 + 1))) with
        | false =>
          have hnc : f_X0_isCost (lI t (skp t (skp t q1 + 1)) - 48) = 0 := by
            unfold f_X0_isCost lI
            by_cases hin3 : skp t (skp t q1 + 1) < t.length
            · rw [if_pos hin3]
              have hnd : ¬ (48 ≤ ltr t (skp t (skp t q1 + 1)) ∧ ltr t (skp t (skp t q1 + 1)) ≤ 57) := fun z => by rw [(isD_iff _).mpr z] at hd; cases hd
              rw [isIn_rg _ (lo := 0) (hi := 10) rfl rfl]
              unfold rg
              have hnn : ¬ ((0 : Nat) : Int) ≤ (nI (ltr t (skp t (skp t q1 + 1))) - 48).toInt ∨ ¬ (nI (ltr t (skp t (skp t q1 + 1))) - 48).toInt < ((10 : Nat) : Int) := by
                rw [show (48 : Int32) = nI 48 from rfl, pk_sub_toInt (by omega) (by decide)]
                omega
              rw [if_neg (show ¬ (((0 : Nat) : Int) ≤ (nI (ltr t (skp t (skp t q1 + 1))) - 48).toInt ∧ (nI (ltr t (skp t (skp t q1 + 1))) - 48).toInt < ((10 : Nat) : Int)) from fun z => by rcases hnn with h | h; exact h z.1; exact h z.2)]
              rfl
            · rw [if_neg hin3]; decide
          rw [hnc, if_pos rfl, if_neg (by decide), faulty_ok ht hT3 (skp_id _ _), obind_some]
          exact ⟨_, rfl, (hO' _).S1 (by simp [caZ]), (hr' _).S1, rfl, gS_at⟩
        | true =>
          have bd := (isD_iff _).mp hd
          have hin3 := ht.in (p := skp t (skp t q1 + 1)) (by omega)
          have hlI : lI t (skp t (skp t q1 + 1)) - 48 = nI (ltr t (skp t (skp t q1 + 1)) - 48) := by
            unfold lI
            rw [if_pos hin3]
            exact pk_sub (b := 48) bd.1
          have hc1 : f_X0_isCost (nI (ltr t (skp t (skp t q1 + 1)) - 48)) = 1 := by
            rw [xisCost_rg, rg_nI (by omega), if_pos (show 0 ≤ ltr t (skp t (skp t q1 + 1)) - 48 ∧ ltr t (skp t (skp t q1 + 1)) - 48 < 10 by omega)]; rfl
          rw [hlI, hc1, if_neg (by decide), if_pos rfl, hT3.2.1, nI_1]
          have e1 : gS1 (xpl G (skp t (skp t q1 + 1))) 0 12 (nI (skp t (skp t q1 + 1) + 1)) = xpl G (skp t (skp t q1 + 1) + 1) := xpl_xpl _ _ _
          rw [e1]
          refine Ok.bind (addAc (hA' _) h4) (fun G3 h3 => ?_)
          obtain ⟨hO3, hr3, hA3⟩ := h3
          refine ⟨_, rfl, (hO' _).tr (hO3.w (fun k j z => by simp [caZ, sZ] at z ⊢; omega)), (hr' _).tr hr3, rfl, ?_, hA3⟩
          exact (h.pl (show skp t (skp t q1 + 1) + 1 ≤ t.length by omega)).off hO3 (fun k j hk => by simp [sZ]; omega)
      · rw [if_neg h58, if_neg h58]
        simp only
        rw [if_pos trivial, xpl_xpl]
        refine Ok.bind (addAc (c := 0) (hA' _) h4) (fun G3 h3 => ?_)
        obtain ⟨hO3, hr3, hA3⟩ := h3
        refine ⟨_, rfl, (hO' _).tr (hO3.w (fun k j z => by simp [caZ, sZ] at z ⊢; omega)), (hr' _).tr hr3, rfl, ?_, hA3⟩
        exact (h.pl hle1).off hO3 (fun k j hk => by simp [sZ]; omega)
/-- behind a candidate -/
def ctn (t : List Nat) (f q : Nat) (acc : List (Nat × Nat)) : Nat ⊕ (List (Nat × Nat) × Nat) := if f = 0 then .inr (acc, q) else if ltr t (skp t q) = 44 then slt t f (skp t q + 1) acc else .inr (acc, skp t q)
theorem slt_ctn (t : List Nat) (f p : Nat) (acc : List (Nat × Nat)) : slt t (f + 1) p acc = match cnd t p (acc.map Prod.fst) with
    | .inl e => .inl e
    | .inr (w, c, q) => ctn t f q (acc ++ [(w, c)]) := by
  show (match cnd t p (acc.map Prod.fst) with | .inl e => _ | .inr (w, c, q) => _) = _
  cases cnd t p (acc.map Prod.fst) with
  | inl e => rfl
  | inr x => obtain ⟨w, c, q⟩ := x; rfl
theorem slots_ok {G G0 : gP} {t : List Nat} {a : Nat} (ht : tok t) (ha : 32 ≤ a) (R : Nat ⊕ (List (Nat × Nat) × Nat)) {f q : Nat} {acc : List (Nat × Nat)} (hlen : acc.length + f = 4) (hR : R = ctn t f q acc) (h : xTp G t q) (hA : xAc G a acc) (hb : ∀ x ∈ acc, x.1 < 32 ∧ x.2 < 10) : Ok (gloop (f_X0_readWords_b50 (G0, a)) gFu G) (fun z => match z with
    | .inl G' => gOff (caZ a) G G' ∧ rSame G G' ∧ ∃ s q, R = .inr (s, q) ∧ xTp G' t q ∧ xAc G' a s
    | .inr r => r.2 = true ∧ gOff (caZ a) G r.1 ∧ rSame G r.1 ∧ ∃ e, R = .inl e ∧ gS r.1 8 6 = nI e) := by
  refine Ok.loop (fun f s => gOff (caZ a) G s ∧ rSame G s ∧ ∃ q acc, acc.length + f = 4 ∧ R = ctn t f q acc ∧ xTp s t q ∧ xAc s a acc ∧ ∀ x ∈ acc, x.1 < 32 ∧ x.2 < 10) ?_ gFu f _ (by unfold gFu; omega) ⟨gOff.rf, rSame.rf, q, acc, hlen, hR, h, hA, hb⟩
  rintro f G1 ⟨hO, hr, q, acc, hlen, hR, h, hA, hb⟩
  unfold f_X0_readWords_b50
  simp only
  rw [hA.1]
  unfold ctn at hR
  by_cases hf0 : f = 0
  · rw [if_pos hf0] at hR
    rw [if_pos (show (4 : Int32) ≤ nI acc.length from nI_le (a := 4) (by omega) (by omega))]
    exact ⟨_, rfl, hO, hr, acc, q, hR, h, hA⟩
  · rw [if_neg hf0] at hR
    rw [if_neg (show ¬ (4 : Int32) ≤ nI acc.length from nI_ge (b := 4) (by omega) (by decide)), show (44 : Int32) = nI 44 from rfl, sign_ok ht h (by decide) (by decide), obind_some]
    have hle := skp_le h.2.2.2
    have hA' : ∀ q', xAc (xpl G1 q') a acc := fun q' => hA.off (Z := fun k _ => decide (k = 0)) (gOff.rf.S1 (by simp)) (fun k j x y => by simp; omega)
    by_cases h44 : ltr t (skp t q) = 44
    · rw [if_pos h44] at hR ⊢
      have hin := ht.in (p := skp t q) (by omega)
      obtain ⟨f, rfl⟩ : ∃ f', f = f' + 1 := ⟨f - 1, by omega⟩
      rw [slt_ctn] at hR
      simp only
      rw [if_neg (by decide)]
      have hc := cnd_ok ht (p := skp t q + 1) (by omega) (acc.map Prod.fst)
      refine Ok.bind (cand_ok ht (h.pl (show skp t q + 1 ≤ t.length by omega)) ha (hA' _) (by omega) hb) (fun r hr2 => ?_)
      obtain ⟨G2, b⟩ := r
      obtain ⟨hO2, hr2, hm⟩ := hr2
      simp only at hO2 hr2 hm ⊢
      have hOO : gOff (caZ a) G G2 := (hO.S1 (by simp [caZ])).tr hO2
      have hrr : rSame G G2 := (hr.S1).tr hr2
      cases hcd : cnd t (skp t q + 1) (acc.map Prod.fst) with
      | inl e =>
        rw [hcd] at hm hR
        simp only at hm hR
        rw [hm.1, if_pos rfl]
        exact ⟨_, rfl, rfl, hOO, hrr, e, hR, hm.2⟩
      | inr x =>
        obtain ⟨w, c, q2⟩ := x
        rw [hcd] at hm hR hc
        simp only at hm hR hc
        rw [hm.1, if_neg (by decide)]
        refine ⟨_, rfl, f, by omega, hOO, hrr, q2, acc ++ [(w, c)], ?_, hR, hm.2.1, hm.2.2, ?_⟩
        · rw [List.length_append, List.length_singleton]; omega
        · intro x hx
          rw [List.mem_append, List.mem_singleton] at hx
          rcases hx with hx | rfl
          · exact hb x hx
          · exact ⟨hc.1, hc.2.1⟩
    · rw [if_neg h44] at hR ⊢
      simp only
      rw [if_pos trivial]
      exact ⟨_, rfl, hO.S1 (by simp [caZ]), hr.S1, acc, skp t q, hR, h.pl hle, hA' _⟩
/-- what reading writes -/
def gtZ (k j : Nat) : Bool := decide ((58 ≤ k ∧ k < 84) ∨ (k = 0 ∧ j = 12) ∨ (k = 8 ∧ j = 6))
def gtP (G : gP) (sl : List (List (Nat × Nat))) : Prop := gS G 58 1 = nI sl.length ∧ ∀ i s, sl[i]? = some s → xAc G (sgO G 58 i) s
theorem gotL_ok {G : gP} {t : List Nat} {q0 : Nat} (ht : tok t) (hg : xSg G 58) (h : xTp G t q0) (h0 : gS G 58 1 = nI 0) : Ok (gloop (f_X0_readWords_b33) gFu (G, (1 : Int32))) (fun z => match z with
    | .inl G' => gOff gtZ G G' ∧ rSame G G' ∧ (∀ j, j ≠ 1 → gS G' 58 j = gS G 58 j) ∧ ∃ sl q, wds t 8 q0 [] = .inr (sl, q) ∧ xTp G' t q ∧ gtP G' sl
    | .inr r => r.2 = true ∧ gOff gtZ G r.1 ∧ rSame G r.1 ∧ ∃ e, wds t 8 q0 [] = .inl e ∧ gS r.1 8 6 = nI e) := by
  refine Ok.loop (fun f s => gOff gtZ G s.1 ∧ rSame G s.1 ∧ (∀ j, j ≠ 1 → gS s.1 58 j = gS G 58 j) ∧ ((f = 0 ∧ s.2 = 0 ∧ ∃ sl q, wds t 8 q0 [] = .inr (sl, q) ∧ xTp s.1 t q ∧ gtP s.1 sl) ∨ (0 < f ∧ s.2 = 1 ∧ ∃ p acc, acc.length + f = 8 ∧ wds t 8 q0 [] = wds t f p acc ∧ xTp s.1 t p ∧ gtP s.1 acc))) ?_ gFu 8 _ (by unfold gFu; omega) ⟨gOff.rf, rSame.rf, fun j _ => rfl, Or.inr ⟨by omega, rfl, q0, [], rfl, rfl, h, h0, fun i s hi => by cases hi⟩⟩
  rintro f ⟨G1, x⟩ ⟨hO, hr, h58, hJ⟩
  simp only at hO hr h58 hJ
  rcases hJ with ⟨rfl, rfl, sl, q, he, hT, hS⟩ | ⟨hf, rfl, p, acc, hlen, he, hT, hS⟩
  · unfold f_X0_readWords_b33
    simp only
    rw [if_pos trivial]
    exact ⟨_, rfl, hO, hr, h58, sl, q, he, hT, hS⟩
  · obtain ⟨f, rfl⟩ : ∃ f', f = f' + 1 := ⟨f - 1, by omega⟩
    have hg1 : xSg G1 58 := hg.same hr
    unfold f_X0_readWords_b33
    simp only
    rw [if_neg (by decide)]
    refine Ok.bind (come_ok (i := 1) (by omega) hg1 hS.1 (by omega)) (fun qq hq => ?_)
    obtain ⟨G2, a⟩ := qq
    obtain ⟨ea, hr2, hO2, h21, h22⟩ := hq
    simp only at ea hr2 hO2 h21 h22 ⊢
    have ea' : a = sgO G1 58 acc.length := ea
    subst ea'
    have rs := hg1.rng (j := acc.length) (by omega)
    have hT2 : xTp G2 t p := hT.off hO2 (fun k j hk => by simp; omega)
    have hA2 : xAc G2 (sgO G1 58 acc.length) [] := ⟨h22, fun j hj => by cases hj⟩
    have hc := cnd_ok ht hT2.2.2.2 []
    have hw : wds t (f + 1) p acc = match slt t 4 p [] with
      | .inl e => .inl e
      | .inr (s, q) => if f = 0 then .inr (acc ++ [s], q) else if ltr t (skp t q) = 59 then wds t f (skp t q + 1) (acc ++ [s]) else .inr (acc ++ [s], skp t q) := rfl
    have hs1 := slt_ctn t 3 p []
    refine Ok.bind (cand_ok ht hT2 (by omega) hA2 (by simp) (fun x hx => by cases hx)) (fun r hr3 => ?_)
    obtain ⟨G3, b⟩ := r
    obtain ⟨hO3, hr3, hm⟩ := hr3
    simp only at hO3 hr3 hm ⊢
    have hO13 : gOff (fun k j => decide ((sgO G1 58 acc.length ≤ k ∧ k ≤ sgO G1 58 acc.length + 2) ∨ (k = 58 ∧ j = 1) ∨ (k = 0 ∧ j = 12) ∨ (k = 8 ∧ j = 6))) G1 G3 := (hO2.w (fun k j z => by simp at z ⊢; omega)).tr (hO3.w (fun k j z => by simp [caZ] at z ⊢; omega))
    have hg13 : ∀ {G' : gP}, gOff (fun k j => decide ((sgO G1 58 acc.length ≤ k ∧ k ≤ sgO G1 58 acc.length + 2) ∨ (k = 58 ∧ j = 1) ∨ (k = 0 ∧ j = 12) ∨ (k = 8 ∧ j = 6))) G1 G' → gOff gtZ G G' := fun hx => hO.tr (hx.w (fun k j z => by simp [gtZ] at z ⊢; omega))
    have hr13 : rSame G1 G3 := hr2.tr hr3
    have e1 : ([] : List (Nat × Nat)).map Prod.fst = [] := rfl
    cases hcd : cnd t p [] with
    | inl e =>
      rw [e1, hcd] at hm hs1
      simp only at hm hs1
      rw [hs1] at hw
      simp only at hw
      rw [hm.1, if_pos rfl]
      exact ⟨_, rfl, rfl, hg13 hO13, hr.tr hr13, e, he.trans hw, hm.2⟩
    | inr x =>
      obtain ⟨w, c, q⟩ := x
      rw [e1, hcd] at hm hs1
      rw [hcd] at hc
      simp only at hm hs1 hc
      rw [hm.1, if_neg (by decide)]
      have hlo := slots_ok (G0 := G2) (a := sgO G1 58 acc.length) ht (by omega) (ctn t 3 q [(w, c)]) (f := 3) (acc := [(w, c)]) rfl rfl hm.2.1 hm.2.2 (fun x hx => by rw [List.mem_singleton] at hx; subst hx; exact ⟨hc.1, hc.2.1⟩)
      refine Ok.bind hlo (fun z hz => ?_)
      have hs2 : slt t (3 + 1) p [] = ctn t 3 q [(w, c)] := hs1
      rw [← hs2] at hz
      cases z with
      | inr r =>
        obtain ⟨G4, b4⟩ := r
        obtain ⟨hb4, hO4, hr4, e, hR, h86⟩ := hz
        simp only at hb4 hO4 hr4 h86
        rw [hR] at hw
        simp only at hw
        subst hb4
        show Ok (some (Sum.inr (Sum.inr (G4, true)))) _
        exact ⟨_, rfl, rfl, hg13 (hO13.tr (hO4.w (fun k j z => by simp [caZ] at z ⊢; omega))), hr.tr (hr13.tr hr4), e, he.trans hw, h86⟩
      | inl G4 =>
        obtain ⟨hO4, hr4, s, q2, hR, hT4, hA4⟩ := hz
        rw [hR] at hw
        simp only at hw
        have hO14 := hO13.tr (hO4.w (fun k j z => by simp [caZ] at z ⊢; omega))
        have hr14 : rSame G1 G4 := hr13.tr hr4
        have m58 : gS G4 58 1 = nI (acc.length + 1) := by rw [(hO4 58 1 (by simp [caZ]; omega)).1, (hO3 58 1 (by simp [caZ]; omega)).1]; exact h21
        have h58' : ∀ j, j ≠ 1 → gS G4 58 j = gS G 58 j := fun j hj => by rw [(hO14 58 j (by simp; omega)).1]; exact h58 j hj
        have hS4 : ∀ G5, gOff (fun k j => decide (k = 0 ∧ j = 12)) G4 G5 → rSame G4 G5 → gtP G5 (acc ++ [s]) := by
          intro G5 hO5 hr5
          refine ⟨by rw [(hO5 58 1 (by simp)).1, m58, List.length_append, List.length_singleton], fun i s' hi => ?_⟩
          rw [(hr14.tr hr5).sg]
          by_cases e : i = acc.length
          · subst e
            rw [List.getElem?_append_right (Nat.le_refl _), Nat.sub_self] at hi
            cases hi
            exact hA4.off hO5 (fun k j x y => by simp; omega)
          · have hil : i < acc.length := by have := (List.getElem?_eq_some_iff.mp hi).1; simp at this; omega
            rw [List.getElem?_append_left hil] at hi
            have ri := hg1.rng (j := i) (by omega)
            have hd : sgO G1 58 i ≠ sgO G1 58 acc.length := fun z => e (hg1.2 i acc.length (by omega) (by omega) z)
            exact ((hS.2 i s' hi).off hO14 (fun k j x y => by simp; omega)).off hO5 (fun k j x y => by simp; omega)
        show Ok (if (8 : Int32) ≤ gS G4 58 1 then some (Sum.inl (G4, (0 : Int32))) else (f_X0_isSign G4 59).bind fun q34 => if q34.2 = 0 then some (Sum.inl (q34.1, (0 : Int32))) else some (Sum.inl (q34.1, (1 : Int32)))) _
        rw [m58]
        by_cases hf0 : f = 0
        · rw [if_pos hf0] at hw
          rw [if_pos (show (8 : Int32) ≤ nI (acc.length + 1) from nI_le (a := 8) (by omega) (by omega))]
          exact ⟨_, rfl, 0, by omega, hg13 hO14, hr.tr hr14, h58', Or.inl ⟨rfl, rfl, _, _, he.trans hw, hT4, hS4 _ gOff.rf rSame.rf⟩⟩
        · rw [if_neg hf0] at hw
          rw [if_neg (show ¬ (8 : Int32) ≤ nI (acc.length + 1) from nI_ge (b := 8) (by omega) (by decide)), show (59 : Int32) = nI 59 from rfl, sign_ok ht hT4 (by decide) (by decide), obind_some]
          have hle4 := skp_le hT4.2.2.2
          have h58'' : ∀ q', ∀ j, j ≠ 1 → gS (xpl G4 q') 58 j = gS G 58 j := fun q' j hj => by
            show gS (gS1 G4 0 12 _) 58 j = _
            rw [gS_ne (by omega)]; exact h58' j hj
          by_cases h59 : ltr t (skp t q2) = 59
          · rw [if_pos h59] at hw ⊢
            have hin := ht.in (p := skp t q2) (by omega)
            simp only
            rw [if_neg (by decide)]
            refine ⟨_, rfl, f, by omega, (hg13 hO14).S1 (by simp [gtZ]), (hr.tr hr14).S1, h58'' _, Or.inr ⟨by omega, rfl, skp t q2 + 1, acc ++ [s], ?_, he.trans hw, hT4.pl (by omega), hS4 _ (gOff.rf.S1 (by simp)) (rSame.rf.S1)⟩⟩
            rw [List.length_append, List.length_singleton]; omega
          · rw [if_neg h59] at hw ⊢
            simp only
            rw [if_pos trivial]
            exact ⟨_, rfl, 0, by omega, (hg13 hO14).S1 (by simp [gtZ]), (hr.tr hr14).S1, h58'' _, Or.inl ⟨rfl, rfl, _, _, he.trans hw, hT4.pl hle4, hS4 _ (gOff.rf.S1 (by simp)) (rSame.rf.S1)⟩⟩
end
section
/-! the component's words, whole -/
theorem xSt.got {S : St} {T : Nat → Nat × Nat} {G G' : gP} (hW : S.Wf) (h : xSt S T G) (hO : gOff gtZ G G') (hr : rSame G G') : xSt S T G' :=
  h.frame (L := S.now) hW hO (fun k j _ => hr k j) ((h.sg 0 (by omega)).same hr) (h.rk.same hr) (fun k j hk => by simp [gtZ]; omega) (h.now.off hW.now.n8 (h.sg 0 (by omega)) hO hr (fun k j a b => by simp [gtZ]; omega))
theorem lI_pos {t : List Nat} (ht : tok t) (q : Nat) : (0 : Int32) ≤ lI t q ↔ q < t.length := by
  unfold lI
  have := ht.lt q
  by_cases hq : q < t.length
  · rw [if_pos hq]; exact ⟨fun _ => hq, fun _ => nI_pos' (by omega)⟩
  · rw [if_neg hq]; exact ⟨fun z => absurd z (by decide), fun z => absurd z hq⟩
theorem lI_neg {t : List Nat} (ht : tok t) (q : Nat) : lI t q < (0 : Int32) ↔ ¬ q < t.length := by
  unfold lI
  have := ht.lt q
  by_cases hq : q < t.length
  · rw [if_pos hq]; exact ⟨fun z => absurd z (nI_pos (by omega)), fun z => absurd hq z⟩
  · rw [if_neg hq]; exact ⟨fun _ => hq, fun _ => by decide⟩
theorem readWords_ok {S : St} {T : Nat → Nat × Nat} {G : gP} (hW : S.Wf) (h : xSt S T G) : Ok (f_X0_readWords G) (fun r => gOff gtZ G r.1 ∧ rSame G r.1 ∧ match prs S.tape with
    | .inl e => r.2 = true ∧ gS r.1 8 6 = nI e
    | .inr sl => r.2 = false ∧ xLt r.1 58 (S.now.lay sl)) := by
  have ht : tok S.tape := hW.tape
  unfold f_X0_readWords
  have hO0 : gOff gtZ G (xpl G 0) := gOff.rf.S1 (by simp [gtZ])
  have hr0 : rSame G (xpl G 0) := rSame.rf.S1
  have hT0 : xTp (xpl G 0) S.tape 0 := ⟨by unfold xpl; rw [gS_ne (by decide)]; exact h.tp, gS_at, h.tape.S1 (Or.inl (by decide)), Nat.zero_le _⟩
  have hx0 := h.got hW hO0 hr0
  show Ok (gLet (xpl G 0) _) _
  simp only [gLet_e]
  generalize xpl G 0 = G0 at *
  have hn : xLt G0 (32 + 26 * 0) S.now := hx0.now
  refine Ok.bind (latTake_ok (i := 1) (j := 0) (by omega) (by omega) (by omega) (hx0.sg 1 (by omega)) (hx0.sg 0 (by omega)) hW.now hn) (fun G1 h1 => ?_)
  obtain ⟨hO1, hr1, hx1⟩ := h1
  have hx1' : xLt G1 58 S.now := hx1
  unfold f_X6_begin
  simp only [gLet_e, obind_some]
  have hO2 : gOff (fun k j => decide (k = 58 ∧ j = 1)) G1 (gS1 G1 58 1 0) := gOff.rf.S1 (by simp)
  have hr2 : rSame G1 (gS1 G1 58 1 0) := rSame.rf.S1
  have h21 : gS (gS1 G1 58 1 0) 58 1 = nI 0 := gS_at
  generalize gS1 G1 58 1 0 = G2 at *
  have hO02 : gOff gtZ G G2 := (hO0.tr (hO1.w (fun k j z => by simp [gtZ, lZ] at z ⊢; omega))).tr (hO2.w (fun k j z => by simp [gtZ] at z ⊢; omega))
  have hr02 : rSame G G2 := (hr0.tr hr1).tr hr2
  have hT2 : xTp G2 S.tape 0 := (hT0.off hO1 (fun k j hk => by simp [lZ]; omega)).off hO2 (fun k j hk => by simp; omega)
  have hk2 : gS G2 58 2 = nI S.now.kind ∧ gS G2 58 3 = nI S.now.slack ∧ gS G2 58 4 = nI S.now.draw := ⟨by rw [(hO2 58 2 (by simp)).1]; exact hx1'.2.1, by rw [(hO2 58 3 (by simp)).1]; exact hx1'.2.2.1, by rw [(hO2 58 4 (by simp)).1]; exact hx1'.2.2.2.1⟩
  have hg2 : xSg G2 58 := (h.sg 1 (by omega)).same hr02
  rw [next_ok ht hT2, obind_some]
  simp only
  have hle0 := skp_le (t := S.tape) (Nat.zero_le S.tape.length)
  have hO3 : gOff (fun k j => decide (k = 0 ∧ j = 12)) G2 (xpl G2 (skp S.tape 0)) := gOff.rf.S1 (by simp)
  have hr3 : rSame G2 (xpl G2 (skp S.tape 0)) := rSame.rf.S1
  have hT3 : xTp (xpl G2 (skp S.tape 0)) S.tape (skp S.tape 0) := hT2.pl hle0
  generalize xpl G2 (skp S.tape 0) = G3 at *
  have hO03 : gOff gtZ G G3 := hO02.tr (hO3.w (fun k j z => by simp [gtZ] at z ⊢; omega))
  have hr03 : rSame G G3 := hr02.tr hr3
  have e58 : ∀ j, gS G3 58 j = gS G2 58 j := fun j => (hO3 58 j (by simp)).1
  have lay : ∀ (G' : gP) sl, rSame G G' → gtP G' sl → (∀ j, j ≠ 1 → gS G' 58 j = gS G3 58 j) → xLt G' 58 (S.now.lay sl) := by
    intro G' sl hr' hP hj
    refine ⟨hP.1, ?_, ?_, ?_, fun i hi => ?_⟩
    · rw [hj 2 (by decide), e58]; exact hk2.1
    · rw [hj 3 (by decide), e58]; exact hk2.2.1
    · rw [hj 4 (by decide), e58]; exact hk2.2.2
    · have hi' : i < sl.length := hi
      exact hP.2 i _ (getD_mem [] hi')
  by_cases hin : skp S.tape 0 < S.tape.length
  · rw [if_pos ((lI_pos ht _).mpr hin)]
    have hprs : prs S.tape = match wds S.tape 8 (skp S.tape 0) [] with
      | .inl e => .inl e
      | .inr (sl, q) => if skp S.tape q < S.tape.length then .inl (skp S.tape q) else .inr sl := by
      unfold prs
      rw [if_neg (by omega)]
      cases wds S.tape 8 (skp S.tape 0) [] with
      | inl e => rfl
      | inr x => obtain ⟨sl, q⟩ := x; rfl
    refine Ok.bind (gotL_ok ht (hg2.same hr3) hT3 (by rw [e58]; exact h21)) (fun z hz => ?_)
    cases z with
    | inr r =>
      obtain ⟨G4, b4⟩ := r
      obtain ⟨hb4, hO4, hr4, e, hR, h86⟩ := hz
      simp only at hb4 hO4 hr4 h86
      subst hb4
      rw [hR] at hprs
      simp only at hprs
      rw [hprs]
      exact ⟨_, rfl, hO03.tr hO4, hr03.tr hr4, rfl, h86⟩
    | inl G4 =>
      obtain ⟨hO4, hr4, hj4, sl, q, hR, hT4, hP4⟩ := hz
      rw [hR] at hprs
      simp only at hprs
      rw [hprs]
      show Ok ((f_X0_nextLetter G4).bind _) _
      rw [next_ok ht hT4, obind_some]
      simp only
      have hleq := skp_le hT4.2.2.2
      have hT5 := hT4.pl hleq
      have hO5 : gOff (fun k j => decide (k = 0 ∧ j = 12)) G4 (xpl G4 (skp S.tape q)) := gOff.rf.S1 (by simp)
      have hr5 : rSame G4 (xpl G4 (skp S.tape q)) := rSame.rf.S1
      generalize xpl G4 (skp S.tape q) = G5 at *
      have hO05 : gOff gtZ G G5 := (hO03.tr hO4).tr (hO5.w (fun k j z => by simp [gtZ] at z ⊢; omega))
      have hr05 : rSame G G5 := (hr03.tr hr4).tr hr5
      by_cases hend : skp S.tape q < S.tape.length
      · rw [if_neg (fun z => (lI_neg ht _).mp z hend), if_pos hend, faulty_ok ht hT5 (skp_id _ _), obind_some]
        exact ⟨_, rfl, hO05.S1 (by simp [gtZ]), hr05.S1, rfl, gS_at⟩
      · rw [if_pos ((lI_neg ht _).mpr hend), if_neg hend]
        refine ⟨_, rfl, hO05, hr05, rfl, lay G5 sl hr05 ⟨by rw [(hO5 58 1 (by simp)).1]; exact hP4.1, fun i s hi => ?_⟩ (fun j hj => by rw [(hO5 58 j (by simp)).1]; exact hj4 j hj)⟩
        rw [hr5.sg]
        have hil : i < sl.length := (List.getElem?_eq_some_iff.mp hi).1
        have h8 := (wds_ok ht 8 (skp S.tape 0) [] hle0 rfl (fun s hs => by cases hs))
        rw [hR] at h8
        have rs := (h.sg 1 (by omega)).same (hr03.tr hr4) |>.rng (j := i) (by have := h8.2.1; omega)
        have rs' : 58 + 2 ≤ sgO G4 58 i := rs.1
        exact (hP4.2 i s hi).off hO5 (fun k j a b => by simp; omega)
  · rw [if_neg (fun z => hin ((lI_pos ht _).mp z))]
    have hprs : prs S.tape = .inr [] := by unfold prs; rw [if_pos (by omega)]
    rw [hprs]
    exact ⟨_, rfl, hO03, hr03, rfl, lay G3 [] hr03 ⟨by rw [e58]; exact h21, fun i s hi => by cases hi⟩ (fun j _ => rfl)⟩
theorem xSt.tape0 {S : St} {T : Nat → Nat × Nat} {G : gP} (hW : S.Wf) (h : xSt S T G) : xSt (St.of (S.now) (S.past) (S.kept) ([]) (S.sh)) T (gS1 G 0 11 0) := by
  have hO : gOff (fun k j => decide (k = 0 ∧ j = 11)) G (gS1 G 0 11 0) := gOff.rf.S1 (by simp)
  have hr : rSame G (gS1 G 0 11 0) := rSame.rf.S1
  have hlt : ∀ i L, i < 19 → L.n ≤ 8 → xLt G (32 + 26 * i) L → xLt (gS1 G 0 11 0) (32 + 26 * i) L := fun i L hi h8 hx => hx.off h8 (h.sg i hi) hO hr (fun k j a b => by simp; omega)
  refine ⟨h.rk.same hr, fun i hi => (h.sg i hi).same hr, h.pa.same hr, fun j hj => by rw [hr]; exact h.ka j hj, hlt 0 _ (by omega) hW.now.n8 h.now, by rw [(hO 0 16 (by simp)).1]; exact h.un, fun i L hi => ?_, ?_, gS_at, aL.nil, fun s hs => (h.sh s hs).off hO (hr _ _) (fun j => by simp)⟩
  · have hil : i < S.past.length := (List.getElem?_eq_some_iff.mp hi).1
    have hp8 := hW.p8
    have hx := h.past i L hi
    have e2 : paO (gS1 G 0 11 0) i = paO G i := rfl
    rw [e2]
    obtain ⟨-, p', hp', e'⟩ := h.pa.1 i (by omega)
    rw [e'] at hx ⊢
    exact hlt _ L (by omega) (hW.past L (List.mem_of_getElem? hi)).n8 hx
  · have hkk : xKp G S.kept := h.kept
    show xKp _ S.kept
    cases hSk : S.kept with
    | none => rw [hSk] at hkk; show gS _ 0 20 = 0; rw [(hO 0 20 (by simp)).1]; exact hkk
    | some z =>
      obtain ⟨Lk, pk⟩ := z
      rw [hSk] at hkk
      obtain ⟨k1, k2, k3, k4⟩ := hkk
      obtain ⟨w1, w2, w3⟩ := hW.kept Lk pk hSk
      refine ⟨by rw [(hO 0 20 (by simp)).1]; exact k1, by rw [(hO 0 19 (by simp)).1]; exact k2, hlt 2 Lk (by omega) w1.n8 k3, fun i L' hi => ?_⟩
      have hil : i < pk.length := (List.getElem?_eq_some_iff.mp hi).1
      exact hlt (11 + i) L' (by omega) (w2 L' (List.mem_of_getElem? hi)).n8 (k4 i L' hi)
theorem St.Wf.tape0 {S : St} (h : S.Wf) : ((St.of (S.now) (S.past) (S.kept) ([]) (S.sh)) : St).Wf := ⟨h.now, h.past, h.p8, h.kept, ⟨Nat.zero_le _, fun v hv => by cases hv⟩, h.sh⟩
theorem xwords_ok {S : St} {T : Nat → Nat × Nat} {G : gP} (hW : S.Wf) (h : xSt S T G) : Ok (f_X0_words G) (xA T (sWords S)) := by
  unfold f_X0_words sWords
  refine Ok.bind (readWords_ok hW h) (fun r hr => ?_)
  obtain ⟨G1, b⟩ := r
  obtain ⟨hO1, hr1, hm⟩ := hr
  simp only at hO1 hr1 hm ⊢
  have hx1 := h.got hW hO1 hr1
  have hp := prs_ok hW.tape
  cases hpr : prs S.tape with
  | inl e =>
    rw [hpr] at hm
    obtain ⟨rfl, h86⟩ := hm
    rw [if_pos rfl]
    simp only [gLet_e]
    refine ⟨_, rfl, hx1.tape0 hW, ?_⟩
    simp only
    rw [gS_ne (by decide), h86]
  | inr sl =>
    rw [hpr] at hm hp
    obtain ⟨rfl, hx58⟩ := hm
    rw [if_neg (by decide)]
    simp only [gLet_e]
    have hLW := hW.now.lay hp.2 hp.1
    have hO2 : gOff (fun k j => decide (k = 0 ∧ j = 11)) G1 (gS1 G1 0 11 0) := gOff.rf.S1 (by simp)
    have hr2 : rSame G1 (gS1 G1 0 11 0) := rSame.rf.S1
    have hx2 := hx1.tape0 hW
    have hg58 : xLt (gS1 G1 0 11 0) (32 + 26 * 1) (S.now.lay sl) := hx58.off hLW.n8 (hx1.sg 1 (by omega)) hO2 hr2 (fun k j a b => by simp; omega)
    generalize gS1 G1 0 11 0 = G2 at *
    refine Ok.bind (latTake_ok (i := 0) (j := 1) (by omega) (by omega) (by omega) (hx2.sg 0 (by omega)) (hx2.sg 1 (by omega)) hLW hg58) (fun G3 h3 => ?_)
    obtain ⟨hO3, hr3, hx3⟩ := h3
    have hs3 := hx2.now' hW.tape0 (hO3.w (fun k j z => by simp [nZ, lZ] at z ⊢; omega)) hr3 hx3
    have hs4 := hs3.past0 (hW.tape0.nowp hLW)
    refine ⟨_, rfl, hs4, ?_⟩
    simp only
    rw [gS_ne (by decide)]
    exact hx3.1
end
section
/-! sheets: as they are meant; the Model's -/
def cutL (k : Nat) (v : Int64) : Int64 := if k = 0 then v.toInt32.toInt8.toInt32.toInt64 else if k = 1 then v.toInt32.toInt16.toInt32.toInt64 else if k = 2 then v.toInt32.toInt64 else v
def lF (m : Nat) (f : Nat → Int64) : List Int64 := (List.range m).map f
theorem lF_len (m : Nat) (f : Nat → Int64) : (lF m f).length = m := by unfold lF; simp
theorem lF_get {m : Nat} {f : Nat → Int64} {i : Nat} {v : Int64} (h : (lF m f)[i]? = some v) : i < m ∧ v = f i := by
  have hi : i < (lF m f).length := (List.getElem?_eq_some_iff.mp h).1
  rw [lF_len] at hi
  unfold lF at h
  rw [List.getElem?_map, List.getElem?_range hi] at h
  exact ⟨hi, (Option.some.inj h).symm⟩
def whyS (o : Option (Nat × List Int64)) (k : Nat) (a : Int32) (n : Nat) : Int32 := match o with
  | none => -11
  | some (k', l) => if k' = k then (if 0 ≤ a.toInt ∧ a.toInt + (n : Int) ≤ (l.length : Int) then 0 else -13) else -12
def St.setSh (S : St) (s : Nat) (o : Option (Nat × List Int64)) : St := (St.of (S.now) (S.past) (S.kept) (S.tape) (fun x => if x = s then o else S.sh x))
def sSheet (S : St) (a b n : Int32) : St × Int32 := match rg a 0 4 with
  | none => (S, -1)
  | some s => match rg b 0 4 with
    | none => (S, -1)
    | some k => if (24 : Int) < n.toInt then (S, -1) else if n.toInt < 0 then (S, -14) else (S.setSh s (some (k, lF n.toInt.toNat (fun _ => 0))), n)
def sDrop (S : St) (a : Int32) : St × Int32 := match rg a 0 4 with
  | none => (S, -1)
  | some s => match S.sh s with
    | none => (S, -11)
    | some (_, l) => (S.setSh s none, nI l.length)
def shL (S : St) (s : Nat) : List Int64 := match S.sh s with
  | none => []
  | some (_, l) => l
def sItem (S : St) (a b i : Int32) (v : Int64) : St × Int32 := match rg a 0 4 with
  | none => (S, -1)
  | some s => match rg b 0 4 with
    | none => (S, -1)
    | some k => if whyS (S.sh s) k i 1 = 0 then (S.setSh s (some (k, lF (shL S s).length (fun x => if x = i.toInt.toNat then cutL k v else (shL S s).getD x 0))), 1) else (S, whyS (S.sh s) k i 1)
def sCopy (S : St) (a i b j n : Int32) : St × Int32 := match rg a 0 4 with
  | none => (S, -1)
  | some s => match rg b 0 4 with
    | none => (S, -1)
    | some d => match S.sh s with
      | none => (S, -11)
      | some (k, l) => match S.sh d with
        | none => (S, -11)
        | some (k', l') => if k = k' then (if 0 ≤ n.toInt ∧ 0 ≤ i.toInt ∧ 0 ≤ j.toInt ∧ i.toInt + n.toInt ≤ (l.length : Int) ∧ j.toInt + n.toInt ≤ (l'.length : Int) then (S.setSh d (some (k', lF l'.length (fun x => if j.toInt.toNat ≤ x ∧ x < j.toInt.toNat + n.toInt.toNat then l.getD (i.toInt.toNat + (x - j.toInt.toNat)) 0 else l'.getD x 0))), n) else (S, -13)) else (S, -12)
def Lt.kd (L : Lt) (v : Nat) : Lt := (Lt.of (L.n) (v) (L.slack) (L.draw) (L.m) (L.w) (L.c))
def mnB (L : Lt) (l : List Int64) (i n : Nat) : Bool := decide (L.bn.length = n) && allB (fun k => decide ((nI (nsF L.bn k)).toInt64 = l.getD (i + k) 0)) n
def mnS (L : Lt) (l : List Int64) (i n : Nat) : Nat → Int32
  | 0 => 0
  | v + 1 => mnS L l i n v ||| (if mnB (L.kd v) l i n = true then gShl 1 (nI v) else 0)
def sMeant (S : St) (a b i n : Int32) : Int32 := match rg a 0 4 with
  | none => -1
  | some s => match rg b 0 4 with
    | none => -1
    | some k => match rg n 1 7 with
      | none => -1
      | some n => if whyS (S.sh s) k i n = 0 then mnS S.now (shL S s) i.toInt.toNat n 5 else whyS (S.sh s) k i n
def sFilm (S : St) (a b i : Int32) : St × Int32 := match rg a 0 4 with
  | none => (S, -1)
  | some s => match rg b 0 4 with
    | none => (S, -1)
    | some k => match S.now.B with
      | none => (S, -4)
      | some _ => if whyS (S.sh s) k i S.now.bn.length = 0 then (S.setSh s (some (k, lF (shL S s).length (fun x => if i.toInt.toNat ≤ x ∧ x < i.toInt.toNat + S.now.bn.length then cutL k ((nI (nsF S.now.bn (x - i.toInt.toNat))).toInt64) else (shL S s).getD x 0))), nI S.now.bn.length) else (S, whyS (S.sh s) k i S.now.bn.length)
theorem whyS_0 {o : Option (Nat × List Int64)} {k : Nat} {a : Int32} {n : Nat} (h : whyS o k a n = 0) : ∃ l, o = some (k, l) ∧ 0 ≤ a.toInt ∧ a.toInt + (n : Int) ≤ (l.length : Int) := by
  unfold whyS at h
  cases o with
  | none => have h' : (-11 : Int32) = 0 := h; exact absurd h' (by decide)
  | some q =>
    obtain ⟨k', l⟩ := q
    simp only at h
    by_cases e : k' = k
    · rw [if_pos e] at h
      by_cases e2 : 0 ≤ a.toInt ∧ a.toInt + (n : Int) ≤ (l.length : Int)
      · subst e; exact ⟨l, rfl, e2⟩
      · rw [if_neg e2] at h; exact absurd h (by decide)
    · rw [if_neg e] at h; exact absurd h (by decide)
theorem whyS_n {o : Option (Nat × List Int64)} {k : Nat} {a : Int32} {n : Nat} : 0 ≤ whyS o k a n ↔ whyS o k a n = 0 := by
  unfold whyS
  cases o with
  | none => show (0 : Int32) ≤ -11 ↔ (-11 : Int32) = 0; decide
  | some q =>
    obtain ⟨k', l⟩ := q
    simp only
    split
    · split <;> decide
    · decide
/-- how the Model holds a sheet -/
def mShP (G : gP) (s : Nat) (o : Option (Nat × List Int64)) : Prop := match o with
  | none => gS G 17 s = -1
  | some (k, l) => gS G 17 s = nI k ∧ gS G 18 s = nI l.length ∧ ∀ i v, l[i]? = some v → gL G 19 (24 * s + i) = v
theorem mSt.shP {S : St} {G : gP} (h : mSt S G) {s : Nat} (hs : s < 4) : mShP G s (S.sh s) := by
  have := h.sh s hs
  unfold mShP
  cases hS : S.sh s with
  | none => rw [hS] at this; exact this
  | some q => rw [hS] at this; exact this
def shZ (s k j : Nat) : Bool := decide ((k = 17 ∧ j = s) ∨ (k = 18 ∧ j = s) ∨ (k = 19 ∧ 24 * s ≤ j ∧ j < 24 * s + 24) ∨ k = 20)
theorem mSt.setSh {S : St} {G G' : gP} {s : Nat} {o : Option (Nat × List Int64)} (hW : S.Wf) (h : mSt S G) (hO : gOff (shZ s) G G') (hs : mShP G' s o) : mSt (S.setSh s o) G' := by
  refine ⟨h.now.off hO (fun _ => by simp [shZ]), by rw [(hO 0 29 (by simp [shZ])).1]; exact h.un, fun i L hi => (h.past i L hi).off hO (fun _ => by simp [shZ]), ?_, by rw [(hO 0 23 (by simp [shZ])).1]; exact h.tp, fun j v hj => by rw [(hO 11 _ (by simp [shZ])).1]; exact h.tape j v hj, ?_⟩
  · have hk := h.kept
    show match S.kept with | none => _ | some (L, p) => _
    cases hS : S.kept with
    | none => rw [hS] at hk; simp only at hk ⊢; rw [(hO 0 32 (by simp [shZ])).1]; exact hk
    | some q =>
      obtain ⟨L, p⟩ := q
      rw [hS] at hk
      exact ⟨hk.1.off hO (fun _ => by simp [shZ]), by rw [(hO 0 32 (by simp [shZ])).1]; exact hk.2.1, fun i L hi => (hk.2.2 i L hi).off hO (fun _ => by simp [shZ])⟩
  · intro x hx
    show match (if x = s then o else S.sh x) with | none => _ | some (k, l) => _
    by_cases e : x = s
    · subst e
      rw [if_pos rfl]
      unfold mShP at hs
      cases o with
      | none => exact hs
      | some q => exact hs
    · rw [if_neg e]
      have := h.sh x hx
      cases hS : S.sh x with
      | none => rw [hS] at this; simp only at this ⊢; rw [(hO 17 x (by simp [shZ]; omega)).1]; exact this
      | some q =>
        obtain ⟨k, l⟩ := q
        rw [hS] at this
        have hl := (hW.sh x k l hS).2
        refine ⟨by rw [(hO 17 x (by simp [shZ]; omega)).1]; exact this.1, by rw [(hO 18 x (by simp [shZ]; omega)).1]; exact this.2.1, fun i v hi => ?_⟩
        have hil : i < l.length := (List.getElem?_eq_some_iff.mp hi).1
        rw [(hO 19 _ (by simp [shZ]; omega)).2.1]; exact this.2.2 i v hi
theorem gL_at {G : gP} {k j : Nat} {v : Int64} : gL (gL1 G k j v) k j = v := by rw [gL_L1, if_pos ⟨rfl, rfl⟩]
theorem gL_ne {G : gP} {k j a i : Nat} {v : Int64} (h : ¬ (a = k ∧ i = j)) : gL (gL1 G k j v) a i = gL G a i := by rw [gL_L1, if_neg h]
theorem isSheet_rg (a : Int32) : f_X11_isSheet a = if (rg a 0 4).isSome then 1 else 0 := in_rg a rfl rfl
theorem why_ok {S : St} {G : gP} (hW : S.Wf) (h : mSt S G) {s k : Nat} (hs : s < 4) (hk : k < 4) (a : Int32) {n : Nat} (hn : n < 2 ^ 30) : f_X11_why G (nI s) (nI k) a (nI n) = some (whyS (S.sh s) k a n) := by
  have hp := h.shP hs
  unfold f_X11_why whyS
  rw [gIn_t (by omega) hs, gck_t, nI_clamp (by omega)]
  cases hS : S.sh s with
  | none =>
    rw [hS] at hp
    have hp' : gS G 17 s = -1 := hp
    rw [hp', if_neg (by decide)]
  | some q =>
    obtain ⟨k', l⟩ := q
    rw [hS] at hp
    obtain ⟨p1, p2, p3⟩ := hp
    have hw := hW.sh s k' l hS
    rw [p1, p2, if_pos (nI_pos' (by omega)), gck_t, gck_t]
    simp only
    by_cases e : k' = k
    · rw [if_pos (nI_inj e), if_pos e]
      by_cases ha : a < 0
      · have : a.toInt < 0 := Int32.lt_iff_toInt_lt.mp ha
        rw [if_pos ha, if_neg (by omega)]
      · rw [if_neg ha]
        obtain ⟨j, hj, rfl⟩ := nI_of ha
        rw [nI_toInt hj]
        have hsub : (nI l.length - nI j).toInt = (l.length : Int) - (j : Int) := by
          rw [Int32.toInt_sub, nI_toInt (by omega), nI_toInt hj]
          exact Int.bmod_eq_of_le (by omega) (by omega)
        have hc : nI n ≤ nI l.length - nI j ↔ (j : Int) + (n : Int) ≤ (l.length : Int) := by
          rw [Int32.le_iff_toInt_le, nI_toInt (by omega), hsub]; omega
        by_cases h2 : (j : Int) + (n : Int) ≤ (l.length : Int)
        · rw [if_pos (hc.mpr h2), if_pos ⟨by omega, h2⟩]
        · rw [if_neg (fun z => h2 (hc.mp z)), if_neg (fun z => h2 z.2)]
    · rw [if_neg (fun z => e ((nI_eq (by omega) (by omega)).mp z)), if_neg e]
theorem drop_ok {S : St} {G : gP} (hW : S.Wf) (h : mSt S G) (a : Int32) : Ok (f_X11_drop G a) (mA (sDrop S a)) := by
  unfold f_X11_drop sDrop
  rw [isSheet_rg]
  cases ha : rg a 0 4 with
  | none => exact ⟨_, rfl, h, rfl⟩
  | some s =>
    obtain ⟨-, hs, rfl⟩ := rg_some ha
    simp only [Option.isSome_some, if_true]
    have hp := h.shP hs
    rw [if_neg (by decide), gIn_t (by omega) hs, gck_t, nI_clamp (by omega)]
    cases hS : S.sh s with
    | none =>
      rw [hS] at hp
      have hp' : gS G 17 s = -1 := hp
      rw [hp', if_neg (by decide)]
      exact ⟨_, rfl, h, rfl⟩
    | some q =>
      obtain ⟨k, l⟩ := q
      rw [hS] at hp
      obtain ⟨p1, p2, p3⟩ := hp
      have hw := hW.sh s k l hS
      rw [p1, if_pos (nI_pos' (by omega)), gck_t]
      simp only [gLet_e, gck_t]
      refine ⟨_, rfl, h.setSh hW (gOff.rf.S1 (by simp [shZ])) gS_at, ?_⟩
      simp only
      rw [gS_ne (by omega)]; exact p2
theorem sheet_ok {S : St} {G : gP} (hW : S.Wf) (h : mSt S G) (a b n : Int32) : Ok (f_X11_sheet G a b n) (mA (sSheet S a b n)) := by
  unfold f_X11_sheet sSheet
  rw [isSheet_rg, in_rg b (lo := 0) (hi := 4) rfl rfl]
  cases ha : rg a 0 4 with
  | none => exact ⟨_, rfl, h, rfl⟩
  | some s =>
    obtain ⟨-, hs, rfl⟩ := rg_some ha
    simp only [Option.isSome_some, if_true]
    rw [if_neg (by decide)]
    cases hb : rg b 0 4 with
    | none => exact ⟨_, rfl, h, rfl⟩
    | some k =>
      obtain ⟨-, hk, rfl⟩ := rg_some hb
      simp only [Option.isSome_some, if_true]
      rw [if_neg (by decide)]
      have e24 : ((24 : Int32)).toInt = 24 := by decide
      have e0 : ((0 : Int32)).toInt = 0 := by decide
      by_cases h24 : (24 : Int) < n.toInt
      · rw [if_neg (fun z => by have := Int32.le_iff_toInt_le.mp z; omega), if_pos h24]; exact ⟨_, rfl, h, rfl⟩
      · rw [if_pos (Int32.le_iff_toInt_le.mpr (by omega)), if_neg h24]
        by_cases hn : n.toInt < 0
        · rw [if_neg (fun z => by have := Int32.le_iff_toInt_le.mp z; omega), if_pos hn]; exact ⟨_, rfl, h, rfl⟩
        · rw [if_pos (Int32.le_iff_toInt_le.mpr (by omega)), if_neg hn, gIn_t (by omega) hs, gck_t, nI_clamp (by omega)]
          simp only [gLet_e, gck_t]
          have hnn : n = nI n.toInt.toNat := nJ_of (by omega)
          have hO0 : gOff (shZ s) G (gS1 (gS1 G 17 s (nI k)) 18 s n) := (gOff.rf.S1 (by simp [shZ])).S1 (by simp [shZ])
          have g17 : gS (gS1 (gS1 G 17 s (nI k)) 18 s n) 17 s = nI k := by rw [gS_ne (by omega), gS_at]
          have g18 : gS (gS1 (gS1 G 17 s (nI k)) 18 s n) 18 s = n := gS_at
          generalize gS1 (gS1 G 17 s (nI k)) 18 s n = G1 at *
          refine Ok.bind (Q := fun G2 => gOff (fun k j => decide (k = 19 ∧ 24 * s ≤ j ∧ j < 24 * s + 24)) G1 G2 ∧ ∀ j, j < 24 → gL G2 19 (24 * s + j) = 0) ?_ (fun G2 h2 => ?_)
          · refine Ok.up (fun i z => z.2 = nI i ∧ gOff (fun k j => decide (k = 19 ∧ 24 * s ≤ j ∧ j < 24 * s + 24)) G1 z.1 ∧ ∀ j, j < i → gL z.1 19 (24 * s + j) = 0) 24 (by decide) ?_ ?_ ⟨rfl, gOff.rf, fun j hj => by omega⟩
            · rintro i ⟨G2, x⟩ hi ⟨hx, hO, hz⟩
              simp only at hx hO hz
              subst hx
              unfold f_X11_sheet_b51
              simp only
              have e1 : (24 : Int32) * nI s + nI i = nI (24 * s + i) := by rw [show (24 : Int32) = nI 24 from rfl, pk_mul, nI_add]
              rw [if_neg (show ¬ (24 : Int32) ≤ nI i from nI_ge (b := 24) hi (by decide)), e1, gIn_t (by omega) (by omega), gck_t, nI_clamp (by omega)]
              refine ⟨_, rfl, nI_1 i, hO.L1 (by simp; omega), fun j hj => ?_⟩
              simp only
              by_cases e : j = i
              · subst e; rw [gL_at]
              · rw [gL_ne (by omega)]; exact hz j (by omega)
            · rintro ⟨G2, x⟩ ⟨hx, hO, hz⟩
              simp only at hx hO hz
              subst hx
              unfold f_X11_sheet_b51
              simp only
              rw [if_pos (show (24 : Int32) ≤ nI 24 by decide)]
              exact ⟨_, rfl, hO, hz⟩
          · refine ⟨_, rfl, h.setSh hW (hO0.tr (h2.1.w (fun k j z => by simp [shZ] at z ⊢; omega))) ⟨?_, ?_, fun i v hi => ?_⟩, rfl⟩
            · rw [(h2.1 17 s (by simp)).1]; exact g17
            · rw [(h2.1 18 s (by simp)).1, g18, lF_len]; exact hnn
            · obtain ⟨hi1, rfl⟩ := lF_get hi
              exact h2.2 i (by omega)
theorem cut_I {k : Nat} (hk : k < 4) (v : Int64) : f_X11_cut v (nI k) = cutL k v := by
  unfold f_X11_cut cutL
  have hc : k = 0 ∨ k = 1 ∨ k = 2 ∨ k = 3 := by omega
  rcases hc with rfl | rfl | rfl | rfl
  · rw [if_pos (show nI 0 = 0 from rfl), if_pos rfl]
  · rw [if_neg (by decide), if_pos (show nI 1 = 1 from rfl), if_neg (by decide), if_pos rfl]
  · rw [if_neg (by decide), if_neg (by decide), if_pos (show nI 2 = 2 from rfl), if_neg (by decide), if_neg (by decide), if_pos rfl]
  · rw [if_neg (by decide), if_neg (by decide), if_neg (by decide), if_neg (by decide), if_neg (by decide), if_neg (by decide)]
theorem item_ok {S : St} {G : gP} (hW : S.Wf) (h : mSt S G) (a b i : Int32) (v : Int64) : Ok (f_X11_item G a b i v) (mA (sItem S a b i v)) := by
  unfold f_X11_item sItem
  rw [isSheet_rg, in_rg b (lo := 0) (hi := 4) rfl rfl]
  cases ha : rg a 0 4 with
  | none => exact ⟨_, rfl, h, rfl⟩
  | some s =>
    obtain ⟨-, hs, rfl⟩ := rg_some ha
    simp only [Option.isSome_some, if_true]
    rw [if_neg (by decide)]
    cases hb : rg b 0 4 with
    | none => exact ⟨_, rfl, h, rfl⟩
    | some k =>
      obtain ⟨-, hk, rfl⟩ := rg_some hb
      simp only [Option.isSome_some, if_true]
      have hwy := why_ok hW h hs hk i (n := 1) (by decide)
      rw [if_neg (by decide), show (1 : Int32) = nI 1 from rfl, hwy, obind_some]
      by_cases h0 : whyS (S.sh s) k i 1 = 0
      · rw [if_pos (whyS_n.mpr h0), if_pos h0]
        obtain ⟨l, hS, h1, h2⟩ := whyS_0 h0
        have hw := hW.sh s k l hS
        have hp := h.shP hs
        rw [hS] at hp
        obtain ⟨p1, p2, p3⟩ := hp
        have hi : i = nI i.toInt.toNat := nJ_of (by omega)
        have hsl : shL S s = l := by unfold shL; rw [hS]
        have hil : i.toInt.toNat < l.length := by omega
        generalize i.toInt.toNat = ii at *
        subst hi
        have e1 : (24 : Int32) * nI s + nI ii = nI (24 * s + ii) := by rw [show (24 : Int32) = nI 24 from rfl, pk_mul, nI_add]
        rw [e1, gIn_t (by omega) (by omega), gck_t, nI_clamp (by omega), cut_I hk, hsl]
        refine ⟨_, rfl, h.setSh hW (gOff.rf.L1 (by simp [shZ]; omega)) ⟨p1, by rw [lF_len]; exact p2, fun j w hj => ?_⟩, rfl⟩
        obtain ⟨hj1, rfl⟩ := lF_get hj
        by_cases e : j = ii
        · rw [if_pos e, e, gL_at]
        · rw [if_neg e, gL_ne (by omega)]; exact p3 j _ (getD_mem 0 hj1)
      · rw [if_neg (fun z => h0 (whyS_n.mp z)), if_neg h0]; exact ⟨_, rfl, h, rfl⟩
end
section
/-! the Model: copy, meant, film -/
theorem lt0_I (a : Int32) : a < 0 ↔ a.toInt < 0 := by rw [Int32.lt_iff_toInt_lt]; exact Iff.rfl
theorem add_L (a b : Int32) : (a.toInt64 + b.toInt64).toInt = a.toInt + b.toInt := by
  rw [Int64.toInt_add, Int32.toInt_toInt64, Int32.toInt_toInt64]
  have h1 := Int32.le_toInt a
  have h2 := Int32.toInt_lt a
  have h3 := Int32.le_toInt b
  have h4 := Int32.toInt_lt b
  exact Int.bmod_eq_of_le (by omega) (by omega)
theorem copy_ok {S : St} {G : gP} (hW : S.Wf) (h : mSt S G) (a i b j n : Int32) : Ok (f_X11_copy G a i b j n) (mA (sCopy S a i b j n)) := by
  unfold f_X11_copy sCopy
  rw [isSheet_rg, isSheet_rg]
  cases ha : rg a 0 4 with
  | none => exact ⟨_, rfl, h, rfl⟩
  | some s =>
    obtain ⟨-, hs, rfl⟩ := rg_some ha
    simp only [Option.isSome_some, if_true]
    rw [if_neg (by decide)]
    cases hb : rg b 0 4 with
    | none => exact ⟨_, rfl, h, rfl⟩
    | some d =>
      obtain ⟨-, hd, rfl⟩ := rg_some hb
      simp only [Option.isSome_some, if_true]
      have hp := h.shP hs
      have hq := h.shP hd
      rw [if_neg (by decide), gIn_t (by omega) hs, gck_t, nI_clamp (by omega), gIn_t (show d < 2 ^ 31 by omega) hd, nI_clamp (show d < 2 ^ 31 by omega)]
      simp only [gck_t]
      cases hS : S.sh s with
      | none =>
        rw [hS] at hp
        have hp' : gS G 17 s = -1 := hp
        rw [hp', if_pos (by decide)]
        exact ⟨_, rfl, h, rfl⟩
      | some q =>
        obtain ⟨k, l⟩ := q
        rw [hS] at hp
        obtain ⟨p1, p2, p3⟩ := hp
        have hw := hW.sh s k l hS
        rw [p1, p2, if_neg (nI_pos (by omega))]
        simp only
        cases hD : S.sh d with
        | none =>
          rw [hD] at hq
          have hq' : gS G 17 d = -1 := hq
          rw [hq', if_neg (by decide)]
          exact ⟨_, rfl, h, rfl⟩
        | some q' =>
          obtain ⟨k', l'⟩ := q'
          rw [hD] at hq
          obtain ⟨q1, q2, q3⟩ := hq
          have hw' := hW.sh d k' l' hD
          rw [q1, q2, if_pos (nI_pos' (by omega))]
          simp only
          by_cases ek : k = k'
          · rw [if_pos (nI_inj ek), if_pos ek]
            have c1 : (nI l.length).toInt64 < i.toInt64 + n.toInt64 ↔ ¬ i.toInt + n.toInt ≤ (l.length : Int) := by
              rw [Int64.lt_iff_toInt_lt, add_L, Int32.toInt_toInt64, nI_toInt (by omega)]; omega
            have c2 : j.toInt64 + n.toInt64 ≤ (nI l'.length).toInt64 ↔ j.toInt + n.toInt ≤ (l'.length : Int) := by
              rw [Int64.le_iff_toInt_le, add_L, Int32.toInt_toInt64, nI_toInt (by omega)]
            by_cases hn : n < 0
            · rw [if_pos hn, if_neg (fun z => by have := (lt0_I n).mp hn; omega)]; exact ⟨_, rfl, h, rfl⟩
            rw [if_neg hn]
            by_cases hi : i < 0
            · rw [if_pos hi, if_neg (fun z => by have := (lt0_I i).mp hi; omega)]; exact ⟨_, rfl, h, rfl⟩
            rw [if_neg hi]
            by_cases hj : j < 0
            · rw [if_pos hj, if_neg (fun z => by have := (lt0_I j).mp hj; omega)]; exact ⟨_, rfl, h, rfl⟩
            rw [if_neg hj]
            by_cases h1 : i.toInt + n.toInt ≤ (l.length : Int)
            · rw [if_neg (fun z => c1.mp z h1)]
              by_cases h2 : j.toInt + n.toInt ≤ (l'.length : Int)
              · rw [if_pos (c2.mpr h2)]
                obtain ⟨nn, hnn, rfl⟩ := nI_of hn
                obtain ⟨ii, hii, rfl⟩ := nI_of hi
                obtain ⟨jj, hjj, rfl⟩ := nI_of hj
                rw [nI_toInt hnn, nI_toInt hii] at h1
                rw [nI_toInt hnn, nI_toInt hjj] at h2
                rw [nI_toInt hnn, nI_toInt hii, nI_toInt hjj, if_pos ⟨by omega, by omega, by omega, h1, h2⟩, Int.toNat_natCast, Int.toNat_natCast, Int.toNat_natCast]
                -- moved
                refine Ok.bind (Q := fun G1 => gOff (fun k _ => decide (k = 20)) G G1 ∧ ∀ x, x < nn → gL G1 20 x = gL G 19 (24 * s + ii + x)) ?_ (fun G1 h3 => ?_)
                · refine Ok.up (fun t z => z.2 = nI t ∧ gOff (fun k _ => decide (k = 20)) G z.1 ∧ ∀ x, x < t → gL z.1 20 x = gL G 19 (24 * s + ii + x)) nn (by omega) ?_ ?_ ⟨rfl, gOff.rf, fun x hx => by omega⟩
                  · rintro t ⟨G1, x⟩ ht ⟨hx, hO, hc⟩
                    simp only at hx hO hc
                    subst hx
                    unfold f_X11_copy_b110
                    simp only
                    have e1 : (24 : Int32) * nI s + nI ii + nI t = nI (24 * s + ii + t) := by rw [show (24 : Int32) = nI 24 from rfl, pk_mul, nI_add, nI_add]
                    rw [if_neg (nI_ge ht (by omega)), e1, gIn_t (by omega) (by omega), gck_t, gIn_t (show t < 2 ^ 31 by omega) (by omega), gck_t, nI_clamp (by omega), nI_clamp (by omega), (hO 19 _ (by simp)).2.1]
                    refine ⟨_, rfl, nI_1 t, hO.L1 (by simp), fun y hy => ?_⟩
                    simp only
                    by_cases e : y = t
                    · subst e; rw [gL_at]
                    · rw [gL_ne (by omega)]; exact hc y (by omega)
                  · rintro ⟨G1, x⟩ ⟨hx, hO, hc⟩
                    simp only at hx hO hc
                    subst hx
                    unfold f_X11_copy_b110
                    simp only
                    rw [if_pos (nI_le (Nat.le_refl _) (by omega))]
                    exact ⟨_, rfl, hO, hc⟩
                · obtain ⟨hO1, hc1⟩ := h3
                  refine Ok.bind (Q := fun G2 => gOff (fun k x => decide (k = 19 ∧ 24 * d + jj ≤ x ∧ x < 24 * d + jj + nn)) G1 G2 ∧ ∀ x, x < nn → gL G2 19 (24 * d + jj + x) = gL G1 20 x) ?_ (fun G2 h4 => ?_)
                  · refine Ok.up (fun t z => z.2 = nI t ∧ gOff (fun k x => decide (k = 19 ∧ 24 * d + jj ≤ x ∧ x < 24 * d + jj + nn)) G1 z.1 ∧ ∀ x, x < t → gL z.1 19 (24 * d + jj + x) = gL G1 20 x) nn (by omega) ?_ ?_ ⟨rfl, gOff.rf, fun x hx => by omega⟩
                    · rintro t ⟨G2, x⟩ ht ⟨hx, hO, hc⟩
                      simp only at hx hO hc
                      subst hx
                      unfold f_X11_copy_b147
                      simp only
                      have e1 : (24 : Int32) * nI d + nI jj + nI t = nI (24 * d + jj + t) := by rw [show (24 : Int32) = nI 24 from rfl, pk_mul, nI_add, nI_add]
                      rw [if_neg (nI_ge ht (by omega)), gIn_t (show t < 2 ^ 31 by omega) (by omega), gck_t, e1, gIn_t (show 24 * d + jj + t < 2 ^ 31 by omega) (by omega), gck_t, nI_clamp (by omega), nI_clamp (by omega), (hO 20 _ (by simp)).2.1]
                      refine ⟨_, rfl, nI_1 t, hO.L1 (by simp; omega), fun y hy => ?_⟩
                      simp only
                      by_cases e : y = t
                      · subst e; rw [gL_at]
                      · rw [gL_ne (by omega)]; exact hc y (by omega)
                    · rintro ⟨G2, x⟩ ⟨hx, hO, hc⟩
                      simp only at hx hO hc
                      subst hx
                      unfold f_X11_copy_b147
                      simp only
                      rw [if_pos (nI_le (Nat.le_refl _) (by omega))]
                      exact ⟨_, rfl, hO, hc⟩
                  · obtain ⟨hO2, hc2⟩ := h4
                    refine ⟨_, rfl, h.setSh hW ((hO1.w (fun k x z => by simp [shZ] at z ⊢; omega)).tr (hO2.w (fun k x z => by simp [shZ] at z ⊢; omega))) ⟨?_, ?_, fun x v hx => ?_⟩, rfl⟩
                    · rw [(hO2 17 d (by simp)).1, (hO1 17 d (by simp)).1]; exact q1
                    · rw [(hO2 18 d (by simp)).1, (hO1 18 d (by simp)).1, lF_len]; exact q2
                    · obtain ⟨hx1, rfl⟩ := lF_get hx
                      by_cases e : jj ≤ x ∧ x < jj + nn
                      · rw [if_pos e, show 24 * d + x = 24 * d + jj + (x - jj) by omega, hc2 _ (by omega), hc1 _ (by omega), show 24 * s + ii + (x - jj) = 24 * s + (ii + (x - jj)) by omega]
                        exact p3 _ _ (getD_mem 0 (by omega))
                      · rw [if_neg e, (hO2 19 _ (by simp; omega)).2.1, (hO1 19 _ (by simp)).2.1]
                        exact q3 _ _ (getD_mem 0 hx1)
              · rw [if_neg (fun z => h2 (c2.mp z)), if_neg (fun z => h2 z.2.2.2.2)]; exact ⟨_, rfl, h, rfl⟩
            · rw [if_pos (c1.mpr h1), if_neg (fun z => h1 z.2.2.2.1)]; exact ⟨_, rfl, h, rfl⟩
          · rw [if_neg (fun z => ek ((nI_eq (by omega) (by omega)).mp z)), if_neg ek]; exact ⟨_, rfl, h, rfl⟩
theorem Lt.Wf.kd {L : Lt} (hL : L.Wf) {v : Nat} (hv : v < 5) : (L.kd v).Wf := ⟨hL.n8, hv, hL.s20, hL.dr, hL.m1, hL.w32, hL.c10, hL.ds⟩
theorem mRow.kd {G : gP} {L : Lt} (hL : L.Wf) (h : mRow G 1 0 L) (v : Nat) : mRow (gS1 G 1 1 (nI v)) 1 0 (L.kd v) := by
  refine mRow.of ?_ gS_at ?_ ?_ (fun i hi => ?_)
  · rw [gS_ne (by decide)]; exact h.1
  · rw [gS_ne (by decide)]; exact h.2.2.1
  · rw [gS_ne (by decide)]; exact h.2.2.2.1
  · exact (h.sl (i := i) hi).off (hL.m1 i hi).2 (Z := fun k j => decide (k = 1 ∧ j < 4)) (gOff.rf.S1 (by simp)) (fun j h1 h2 => by simp; omega)
/-- whether the best one has just those numbers -/
theorem mnB_ok {G : gP} {L : Lt} {l : List Int64} {s i n : Nat} (hL : L.Wf) (hF : fP L G) (hs : s < 4) (hn : n < 7) (hil : i + n ≤ l.length) (h24 : l.length ≤ 24) (hl : ∀ x v, l[x]? = some v → gL G 19 (24 * s + x) = v) : Ok (gloop (f_X11_meant_b104 (nI n) (nI s) (nI i) G) gFu ((if gS G 0 13 = nI n then (1 : Int32) else 0), (0 : Int32))) (fun y => y = bI (mnB L l i n)) := by
  obtain ⟨g1, g2, g3, g4⟩ := hF.bn
  have e0 : (if gS G 0 13 = nI n then (1 : Int32) else 0) = bI (decide (L.bn.length = n)) := by rw [g1]; exact ite_I (by omega) (by omega)
  rw [e0]
  unfold mnB
  by_cases hl2 : L.bn.length = n
  · rw [decide_eq_true hl2]
    refine cmpL (a := 0) (N := n) (c := fun k => decide ((nI (nsF L.bn k)).toInt64 = l.getD (i + k) 0)) (by omega) (fun bb k hk => ?_) (fun bb => ?_) true
    · rw [Nat.zero_add]
      unfold f_X11_meant_b104
      simp only
      rw [if_neg (nI_ge hk (by omega))]
      cases bb
      · rw [if_pos (show bI false = 0 from rfl), if_neg (by decide)]
      · have gk := nsF_aL g2 (show k < L.bn.length by omega)
        rw [Nat.zero_add] at gk
        have e1 : (24 : Int32) * nI s + nI i + nI k = nI (24 * s + i + k) := by rw [show (24 : Int32) = nI 24 from rfl, pk_mul, nI_add, nI_add]
        rw [if_neg (show ¬ bI true = 0 by decide), gIn_t (by omega) (by omega), gck_t, e1, gIn_t (by omega) (by omega), gck_t, nI_clamp (by omega), nI_clamp (by omega), gk, show 24 * s + i + k = 24 * s + (i + k) by omega, hl (i + k) _ (getD_mem 0 (by omega)), if_pos rfl, nI_1]
        by_cases e : (nI (nsF L.bn k)).toInt64 = l.getD (i + k) 0
        · rw [if_pos e, decide_eq_true e]; rfl
        · rw [if_neg e, decide_eq_false e]; rfl
    · rw [Nat.zero_add]
      unfold f_X11_meant_b104
      simp only
      rw [if_pos (nI_le (Nat.le_refl _) (by omega))]
  · rw [decide_eq_false hl2, Bool.false_and]
    refine Ok.out (r := bI false) ?_ rfl
    unfold f_X11_meant_b104
    simp only
    by_cases h0 : n = 0
    · rw [h0, if_pos (show nI 0 ≤ 0 by decide)]
    · rw [if_neg (show ¬ nI n ≤ 0 from nI_nle (by omega) (by omega)), if_pos (show bI false = 0 from rfl)]
theorem meant_ok {S : St} {G : gP} (hW : S.Wf) (h : mSt S G) (a b i n : Int32) : Ok (f_X11_meant G a b i n) (fun q => mSt S q.1 ∧ q.2 = sMeant S a b i n) := by
  unfold f_X11_meant sMeant
  rw [isSheet_rg, in_rg b (lo := 0) (hi := 4) rfl rfl, in_rg n (lo := 1) (hi := 7) rfl rfl]
  cases ha : rg a 0 4 with
  | none => exact ⟨_, rfl, h, rfl⟩
  | some s =>
    obtain ⟨-, hs, rfl⟩ := rg_some ha
    simp only [Option.isSome_some, if_true]
    rw [if_neg (by decide)]
    cases hb : rg b 0 4 with
    | none => exact ⟨_, rfl, h, rfl⟩
    | some k =>
      obtain ⟨-, hk, rfl⟩ := rg_some hb
      simp only [Option.isSome_some, if_true]
      rw [if_neg (by decide)]
      cases hn : rg n 1 7 with
      | none => exact ⟨_, rfl, h, rfl⟩
      | some nn =>
        obtain ⟨hn1, hn7, rfl⟩ := rg_some hn
        simp only [Option.isSome_some, if_true]
        rw [if_neg (by decide), why_ok hW h hs hk i (by omega), obind_some]
        by_cases h0 : whyS (S.sh s) k i nn = 0
        · rw [if_pos (whyS_n.mpr h0), if_pos h0]
          obtain ⟨l, hS, h1, h2⟩ := whyS_0 h0
          have hw := hW.sh s k l hS
          have hp := h.shP hs
          rw [hS] at hp
          obtain ⟨p1, p2, p3⟩ := hp
          have hi : i = nI i.toInt.toNat := nJ_of (by omega)
          have hsl : shL S s = l := by unfold shL; rw [hS]
          have hil : i.toInt.toNat + nn ≤ l.length := by omega
          generalize i.toInt.toNat = ii at *
          subst hi
          have hL := hW.now
          simp only [gLet_e]
          rw [h.now.2.1, hsl]
          refine Ok.bind (Q := fun z => gOff (fun k j => decide (k = 1 ∧ j = 1) || qZ k j) G z.1 ∧ z.2 = mnS S.now l ii nn 5) ?_ (fun z hz => ?_)
          · refine Ok.up (fun v z => z.2.2 = nI v ∧ gOff (fun k j => decide (k = 1 ∧ j = 1) || qZ k j) G z.1 ∧ z.2.1 = mnS S.now l ii nn v) 5 (by decide) ?_ ?_ ⟨rfl, gOff.rf, rfl⟩
            · rintro v ⟨G1, x, y⟩ hv ⟨hy, hO, hx⟩
              simp only at hy hO hx
              subst hy hx
              unfold f_X11_meant_b67
              simp only
              have hR1 : mRow (gS1 G1 1 1 (nI v)) 1 0 (S.now.kd v) := by
                have hz : mRow (gS1 G1 1 1 (nI S.now.kind)) 1 0 S.now := by
                  refine mRow.of ?_ gS_at ?_ ?_ (fun p hp => ?_)
                  · rw [gS_ne (by decide), (hO 1 0 (by simp [qZ])).1]; exact h.now.1
                  · rw [gS_ne (by decide), (hO 1 2 (by simp [qZ])).1]; exact h.now.2.2.1
                  · rw [gS_ne (by decide), (hO 1 3 (by simp [qZ])).1]; exact h.now.2.2.2.1
                  · refine ((h.now.sl (i := p) hp).off (hL.m1 p hp).2 hO (fun j h1 h2 => by simp [qZ]; omega)).off (hL.m1 p hp).2 (Z := fun k j => decide (k = 1 ∧ j < 4)) (gOff.rf.S1 (by simp)) (fun j h1 h2 => by simp; omega)
                have := hz.kd hL v
                rw [gS1_1] at this
                exact this
              have hO1 : gOff (fun k j => decide (k = 1 ∧ j = 1) || qZ k j) G (gS1 G1 1 1 (nI v)) := hO.S1 (by simp)
              rw [if_neg (show ¬ (5 : Int32) ≤ nI v from nI_ge (b := 5) hv (by decide))]
              simp only [gLet_e]
              generalize gS1 G1 1 1 (nI v) = G2 at *
              refine Ok.bind (finds_ok (hL.kd hv) hR1) (fun G3 h3 => ?_)
              have hO3 : gOff (fun k j => decide (k = 1 ∧ j = 1) || qZ k j) G G3 := hO1.tr (h3.1.w (fun k j z => qZ_f (by simp only [Bool.or_eq_false_iff] at z; exact z.2)))
              refine Ok.bind (mnB_ok (hL.kd hv) h3.2 hs (by omega) hil hw.2 (fun x w hx => by rw [(hO3 19 _ (by simp [qZ])).2.1]; exact p3 x w hx)) (fun y hy => ?_)
              subst hy
              refine ⟨_, rfl, nI_1 v, hO3, ?_⟩
              simp only
              show _ = mnS S.now l ii nn v ||| (if mnB (S.now.kd v) l ii nn = true then gShl 1 (nI v) else 0)
              cases mnB (S.now.kd v) l ii nn
              · rw [if_pos (show bI false = 0 from rfl), if_neg (by decide)]
              · rw [if_neg (show ¬ bI true = 0 by decide), if_pos rfl]
            · rintro ⟨G1, x, y⟩ ⟨hy, hO, hx⟩
              simp only at hy hO hx
              subst hy hx
              unfold f_X11_meant_b67
              simp only
              rw [if_pos (show (5 : Int32) ≤ nI 5 by decide)]
              exact ⟨_, rfl, hO, rfl⟩
          · obtain ⟨G1, x⟩ := z
            obtain ⟨hO, hx⟩ := hz
            simp only at hO hx
            refine ⟨_, rfl, h.now' (L := S.now) (hO.S1 (k := 1) (j := 1) (v := nI S.now.kind) (by simp)) (fun k j hk => by simp [qZ]; omega) (mRow.of ?_ gS_at ?_ ?_ (fun p hp => ?_)), hx⟩
            · rw [gS_ne (by decide), (hO 1 0 (by simp [qZ])).1]; exact h.now.1
            · rw [gS_ne (by decide), (hO 1 2 (by simp [qZ])).1]; exact h.now.2.2.1
            · rw [gS_ne (by decide), (hO 1 3 (by simp [qZ])).1]; exact h.now.2.2.2.1
            · exact ((h.now.sl (i := p) hp).off (hL.m1 p hp).2 hO (fun j h1 h2 => by simp [qZ]; omega)).off (hL.m1 p hp).2 (Z := fun k j => decide (k = 1 ∧ j < 4)) (gOff.rf.S1 (by simp)) (fun j h1 h2 => by simp; omega)
        · rw [if_neg (fun z => h0 (whyS_n.mp z)), if_neg h0]; exact ⟨_, rfl, h, rfl⟩
theorem film_ok {S : St} {G : gP} (hW : S.Wf) (h : mSt S G) (a b i : Int32) : Ok (f_X11_film G a b i) (mA (sFilm S a b i)) := by
  unfold f_X11_film sFilm
  rw [isSheet_rg, in_rg b (lo := 0) (hi := 4) rfl rfl]
  cases ha : rg a 0 4 with
  | none => exact ⟨_, rfl, h, rfl⟩
  | some s =>
    obtain ⟨-, hs, rfl⟩ := rg_some ha
    simp only [Option.isSome_some, if_true]
    rw [if_neg (by decide)]
    cases hb : rg b 0 4 with
    | none => exact ⟨_, rfl, h, rfl⟩
    | some k =>
      obtain ⟨-, hk, rfl⟩ := rg_some hb
      simp only [Option.isSome_some, if_true]
      rw [if_neg (by decide)]
      have hL := hW.now
      refine Ok.bind (finds_ok hL h.now) (fun G1 h1 => ?_)
      obtain ⟨hO1, hF⟩ := h1
      have hm1 : mSt S G1 := h.q (hO1.w (fun k j => qZ_f))
      obtain ⟨g1, g2, g3, g4⟩ := hF.bn
      have hbest : gS G1 0 10 = rI S.now.B := hF.best
      rw [hbest]
      cases hB : S.now.B with
      | none => rw [if_pos rI_none]; exact ⟨_, rfl, hm1, rfl⟩
      | some bb =>
        have hbb := S.now.B_lt hB
        have hN := hL.N_le
        rw [if_neg (rI_ne (by omega)), g1, why_ok hW hm1 hs hk i (by omega), obind_some]
        simp only
        by_cases h0 : whyS (S.sh s) k i S.now.bn.length = 0
        · rw [if_pos (whyS_n.mpr h0), if_pos h0]
          obtain ⟨l, hS, h1, h2⟩ := whyS_0 h0
          have hw := hW.sh s k l hS
          have hp := hm1.shP hs
          rw [hS] at hp
          obtain ⟨p1, p2, p3⟩ := hp
          have hi : i = nI i.toInt.toNat := nJ_of (by omega)
          have hsl : shL S s = l := by unfold shL; rw [hS]
          have hil : i.toInt.toNat + S.now.bn.length ≤ l.length := by omega
          rw [hsl]
          generalize i.toInt.toNat = ii at *
          subst hi
          refine Ok.bind (Q := fun G2 => gOff (fun k x => decide (k = 19 ∧ 24 * s + ii ≤ x ∧ x < 24 * s + ii + S.now.bn.length)) G1 G2 ∧ ∀ x, x < S.now.bn.length → gL G2 19 (24 * s + ii + x) = cutL k ((nI (nsF S.now.bn x)).toInt64)) ?_ (fun G2 h3 => ?_)
          · refine Ok.up (fun t z => z.2 = nI t ∧ gOff (fun k x => decide (k = 19 ∧ 24 * s + ii ≤ x ∧ x < 24 * s + ii + S.now.bn.length)) G1 z.1 ∧ ∀ x, x < t → gL z.1 19 (24 * s + ii + x) = cutL k ((nI (nsF S.now.bn x)).toInt64)) S.now.bn.length (by omega) ?_ ?_ ⟨rfl, gOff.rf, fun x hx => by omega⟩
            · rintro t ⟨G2, x⟩ ht ⟨hx, hO, hc⟩
              simp only at hx hO hc
              subst hx
              unfold f_X11_film_b61
              simp only
              have gk := nsF_aL g2 ht
              rw [Nat.zero_add] at gk
              have e1 : (24 : Int32) * nI s + nI ii + nI t = nI (24 * s + ii + t) := by rw [show (24 : Int32) = nI 24 from rfl, pk_mul, nI_add, nI_add]
              rw [(hO 0 13 (by simp)).1, g1, if_neg (nI_ge ht (by omega)), gIn_t (by omega) (by omega), gck_t, e1, gIn_t (by omega) (by omega), gck_t, nI_clamp (by omega), nI_clamp (by omega), (hO 5 t (by simp)).1, gk, cut_I hk]
              refine ⟨_, rfl, nI_1 t, hO.L1 (by simp; omega), fun y hy => ?_⟩
              simp only
              by_cases e : y = t
              · subst e; rw [gL_at]
              · rw [gL_ne (by omega)]; exact hc y (by omega)
            · rintro ⟨G2, x⟩ ⟨hx, hO, hc⟩
              simp only at hx hO hc
              subst hx
              unfold f_X11_film_b61
              simp only
              rw [(hO 0 13 (by simp)).1, g1, if_pos (nI_le (Nat.le_refl _) (by omega))]
              exact ⟨_, rfl, hO, hc⟩
          · obtain ⟨hO2, hc2⟩ := h3
            refine ⟨_, rfl, hm1.setSh hW (hO2.w (fun k x z => by simp [shZ] at z ⊢; omega)) ⟨?_, ?_, fun x v hx => ?_⟩, ?_⟩
            · rw [(hO2 17 s (by simp)).1]; exact p1
            · rw [(hO2 18 s (by simp)).1, lF_len]; exact p2
            · obtain ⟨hx1, rfl⟩ := lF_get hx
              by_cases e : ii ≤ x ∧ x < ii + S.now.bn.length
              · rw [if_pos e, show 24 * s + x = 24 * s + ii + (x - ii) by omega, hc2 _ (by omega)]
              · rw [if_neg e, (hO2 19 _ (by simp; omega)).2.1]
                exact p3 _ _ (getD_mem 0 hx1)
            · simp only
              rw [(hO2 0 13 (by simp)).1]; exact g1
        · rw [if_neg (fun z => h0 (whyS_n.mp z)), if_neg h0]; exact ⟨_, rfl, hm1, rfl⟩
end
section
/-! the component's sheets: drop, meant, film -/
theorem laT_k {k : Nat} (h : k < 4) : laT k = 100 ∨ laT k = 101 ∨ laT k = 103 ∨ laT k = 104 := by
  have hc : k = 0 ∨ k = 1 ∨ k = 2 ∨ k = 3 := by omega
  rcases hc with rfl | rfl | rfl | rfl <;> decide
theorem xSt.setSh {S : St} {T T' : Nat → Nat × Nat} {G G' : gP} {s : Nat} {o : Option (Nat × List Int64)} (hW : S.Wf) (h : xSt S T G) (hT : ∀ x, x ≠ 539 + s → T' x = T x) (hO : gOff (fun k j => decide (k = 28 + s ∨ k = 539 + s)) G G') (hs : s < 4) (hr : ∀ k j, k ≠ 28 + s → gR G' k j = gR G k j) (hrk : xRk G') (hx : xSh T' G' s o) : xSt (S.setSh s o) T' G' := by
  have hsg : ∀ i, i < 19 → xSg G' (32 + 26 * i) := fun i hi => by
    have e : ∀ j, sgO G' (32 + 26 * i) j = sgO G (32 + 26 * i) j := fun j => by unfold sgO; rw [hr _ _ (by omega)]
    exact ⟨fun j hj => by rw [e, hr _ _ (by omega)]; exact (h.sg i hi).1 j hj, fun a b ha hb => by rw [e, e]; exact (h.sg i hi).2 a b ha hb⟩
  have hlt : ∀ i L, i < 19 → L.n ≤ 8 → xLt G (32 + 26 * i) L → xLt G' (32 + 26 * i) L := by
    intro i L hi h8 hx
    obtain ⟨h1, h2, h3, h4, h5⟩ := hx
    refine ⟨?_, ?_, ?_, ?_, fun p hp => ?_⟩
    · rw [(hO _ 1 (by simp; omega)).1]; exact h1
    · rw [(hO _ 2 (by simp; omega)).1]; exact h2
    · rw [(hO _ 3 (by simp; omega)).1]; exact h3
    · rw [(hO _ 4 (by simp; omega)).1]; exact h4
    · have e : sgO G' (32 + 26 * i) p = sgO G (32 + 26 * i) p := by unfold sgO; rw [hr _ _ (by omega)]
      rw [e]
      have := (h.sg i hi).rng (j := p) (by omega)
      exact (h5 p hp).off hO (fun k j a b => by simp; omega)
  have hpa : ∀ j, paO G' j = paO G j := fun j => by unfold paO; rw [hr _ _ (by omega)]
  refine ⟨hrk, hsg, ⟨fun j hj => by rw [hpa, hr _ _ (by omega)]; exact h.pa.1 j hj, fun i j hi hj => by rw [hpa, hpa]; exact h.pa.2 i j hi hj⟩, fun j hj => by rw [hr _ _ (by omega)]; exact h.ka j hj, hlt 0 _ (by omega) hW.now.n8 h.now, ?_, fun i L' hi => ?_, ?_, ?_, ?_, fun x hx4 => ?_⟩
  · rw [(hO 0 16 (by simp; omega)).1]; exact h.un
  · have hil : i < S.past.length := (List.getElem?_eq_some_iff.mp hi).1
    have hp8 := hW.p8
    rw [hpa]
    obtain ⟨-, p, hp, e⟩ := h.pa.1 i (by omega)
    have := h.past i L' hi
    rw [e] at this ⊢
    exact hlt _ L' (by omega) (hW.past L' (List.mem_of_getElem? hi)).n8 this
  · have hkk : xKp G S.kept := h.kept
    show xKp G' S.kept
    cases hSk : S.kept with
    | none => rw [hSk] at hkk; show gS G' 0 20 = 0; rw [(hO 0 20 (by simp; omega)).1]; exact hkk
    | some z =>
      obtain ⟨Lk, pk⟩ := z
      rw [hSk] at hkk
      obtain ⟨k1, k2, k3, k4⟩ := hkk
      obtain ⟨w1, w2, w3⟩ := hW.kept Lk pk hSk
      refine ⟨by rw [(hO 0 20 (by simp; omega)).1]; exact k1, by rw [(hO 0 19 (by simp; omega)).1]; exact k2, hlt 2 Lk (by omega) w1.n8 k3, fun i L' hi => ?_⟩
      have hil : i < pk.length := (List.getElem?_eq_some_iff.mp hi).1
      exact hlt (11 + i) L' (by omega) (w2 L' (List.mem_of_getElem? hi)).n8 (k4 i L' hi)
  · rw [(hO 0 11 (by simp; omega)).1]; exact h.tp
  · intro j v hj; rw [(hO 9 _ (by simp; omega)).1]; exact h.tape j v hj
  · show xSh T' G' x (if x = s then o else S.sh x)
    by_cases e : x = s
    · subst e; rw [if_pos rfl]; exact hx
    · rw [if_neg e]
      have hh := h.sh x hx4
      cases hS : S.sh x with
      | none => rw [hS] at hh; show gR G' _ _ = none; rw [hr _ _ (by omega)]; exact hh
      | some q =>
        obtain ⟨k, l⟩ := q
        rw [hS] at hh
        obtain ⟨a1, a2, a3⟩ := hh
        refine ⟨by rw [hr _ _ (by omega)]; exact a1, by rw [hT _ (by omega)]; exact a2, fun i v hi => ?_⟩
        have := a3 i v hi
        unfold shV at this ⊢
        rw [(hO (539 + x) i (by simp; omega)).1, (hO (539 + x) i (by simp; omega)).2.1]; exact this
theorem xRq_ok {S : St} {T : Nat → Nat × Nat} {G : gP} (hW : S.Wf) (h : xSt S T G) {s : Nat} (hs : s < 4) : xRq T (gR G (28 + s) 0) = true := by
  have hh := h.sh s hs
  cases hS : S.sh s with
  | none => rw [hS] at hh; rw [show gR G (28 + s) 0 = none from hh]; rfl
  | some q =>
    obtain ⟨k, l⟩ := q
    rw [hS] at hh
    rw [hh.1]
    show xRw T (539 + s) = true
    unfold xRw
    apply decide_eq_true
    rw [hh.2.1]
    exact ⟨by omega, laT_k (hW.sh s k l hS).1⟩
theorem xlane_ok {S : St} {T : Nat → Nat × Nat} {G : gP} (hW : S.Wf) (h : xSt S T G) {s k : Nat} {l : List Int64} (hs : s < 4) (hS : S.sh s = some (k, l)) : f_X9_lane T G (28 + s) = some (nI k) ∧ f_X9_size T G (28 + s) = some (nI l.length) ∧ ∀ i, i < l.length → f_X9_get T G (28 + s) (nI i) = some (l.getD i 0) := by
  have hq := xRq_ok hW h hs
  have hh := h.sh s hs
  rw [hS] at hh
  obtain ⟨a1, a2, a3⟩ := hh
  have hw := hW.sh s k l hS
  have i1 : ∀ t, xIs T (some (539 + s)) t = if laT k = t then 1 else 0 := fun t => by
    show (if (T (539 + s)).1 = t then (1 : Int32) else 0) = _
    rw [a2]
  have c1 : xCa T (some (539 + s)) (laT k) = some (539 + s) := by
    show (if 539 ≤ 539 + s ∧ (T (539 + s)).1 = laT k then some (539 + s) else none) = _
    rw [a2, if_pos ⟨by omega, rfl⟩]
  have t2 : (T (539 + s)).2 = l.length := by rw [a2]
  unfold f_X9_lane f_X9_size f_X9_get
  rw [hq, a1]
  simp only [gck_t, i1]
  have hc : k = 0 ∨ k = 1 ∨ k = 2 ∨ k = 3 := by omega
  rcases hc with rfl | rfl | rfl | rfl
  · have e : laT 0 = 103 := rfl
    rw [e] at c1 ⊢
    simp (config := { decide := true }) only [if_true, if_false]
    rw [c1, obind_some, t2]
    refine ⟨trivial, rfl, fun i hi => ?_⟩
    rw [obind_some, t2, gIn_t (by omega) hi, gck_t, nI_clamp (by omega)]
    exact congrArg some (a3 i _ (getD_mem 0 hi))
  · have e : laT 1 = 104 := rfl
    rw [e] at c1 ⊢
    simp (config := { decide := true }) only [if_true, if_false]
    rw [c1, obind_some, t2]
    refine ⟨trivial, rfl, fun i hi => ?_⟩
    rw [obind_some, t2, gIn_t (by omega) hi, gck_t, nI_clamp (by omega)]
    exact congrArg some (a3 i _ (getD_mem 0 hi))
  · have e : laT 2 = 100 := rfl
    rw [e] at c1 ⊢
    simp (config := { decide := true }) only [if_true, if_false]
    rw [c1, obind_some, t2]
    refine ⟨trivial, rfl, fun i hi => ?_⟩
    rw [obind_some, t2, gIn_t (by omega) hi, gck_t, nI_clamp (by omega)]
    exact congrArg some (a3 i _ (getD_mem 0 hi))
  · have e : laT 3 = 101 := rfl
    rw [e] at c1 ⊢
    simp (config := { decide := true }) only [if_true, if_false]
    rw [c1, obind_some, t2]
    refine ⟨trivial, rfl, fun i hi => ?_⟩
    rw [obind_some, t2, gIn_t (by omega) hi, gck_t, nI_clamp (by omega)]
    exact congrArg some (a3 i _ (getD_mem 0 hi))
theorem lacks_ok {S : St} {T : Nat → Nat × Nat} {G : gP} (hW : S.Wf) (h : xSt S T G) {s k : Nat} (hs : s < 4) (hk : k < 4) (a : Int32) {n : Nat} (hn : n < 2 ^ 30) : f_X0_lacks T G (nI s) (nI k) a (nI n) = some (whyS (S.sh s) k a n) := by
  unfold f_X0_lacks whyS
  rw [gIn_t (by omega) hs, gck_t, nI_clamp (by omega), xRq_ok hW h hs, gck_t]
  have hh := h.sh s hs
  cases hS : S.sh s with
  | none =>
    rw [hS] at hh
    rw [if_pos (show gR G (28 + s) 0 = none from hh)]
  | some q =>
    obtain ⟨k', l⟩ := q
    rw [hS] at hh
    have hw := hW.sh s k' l hS
    obtain ⟨l1, l2, -⟩ := xlane_ok hW h hs hS
    rw [if_neg (show ¬ gR G (28 + s) 0 = none by rw [hh.1]; simp), l1, l2, obind_some, obind_some]
    simp only
    by_cases e : k' = k
    · rw [if_pos (nI_inj e), if_pos e]
      by_cases ha : a < 0
      · have : a.toInt < 0 := (lt0_I a).mp ha
        rw [if_pos ha, if_neg (by omega)]
      · rw [if_neg ha]
        obtain ⟨j, hj, rfl⟩ := nI_of ha
        rw [nI_toInt hj]
        have hc : nI j ≤ nI l.length - nI n ↔ (j : Int) + (n : Int) ≤ (l.length : Int) := by
          rw [Int32.le_iff_toInt_le, nI_toInt hj, pk_sub_toInt (by omega) (by omega)]; omega
        by_cases h2 : (j : Int) + (n : Int) ≤ (l.length : Int)
        · rw [if_pos (hc.mpr h2), if_pos ⟨by omega, h2⟩]
        · rw [if_neg (fun z => h2 (hc.mp z)), if_neg (fun z => h2 z.2)]
    · rw [if_neg (fun z => e ((nI_eq (by omega) (by omega)).mp z)), if_neg e]
theorem xisSheet_rg {a b : Int32} : f_X0_isSheet a b = if (rg a 0 4).isSome && (rg b 0 4).isSome then 1 else 0 := by
  unfold f_X0_isSheet
  rw [isIn_rg a (lo := 0) (hi := 4) rfl rfl, isIn_rg b (lo := 0) (hi := 4) rfl rfl]
  cases (rg a 0 4).isSome <;> cases (rg b 0 4).isSome <;> rfl
theorem xdrop_ok {S : St} {T : Nat → Nat × Nat} {G : gP} (hW : S.Wf) (h : xSt S T G) (a : Int32) : Ok (f_X0_drop T G a) (xA T (sDrop S a)) := by
  unfold f_X0_drop sDrop
  rw [xisSheet_rg, show (0 : Int32) = nI 0 from rfl, rg_nI (lo := 0) (hi := 4) (k := 0) (by decide), if_pos (show 0 ≤ 0 ∧ 0 < 4 by decide)]
  cases ha : rg a 0 4 with
  | none => exact ⟨_, rfl, h, rfl⟩
  | some s =>
    obtain ⟨-, hs, rfl⟩ := rg_some ha
    simp only [Option.isSome_some, Bool.and_self, if_true]
    rw [if_neg (by decide), gIn_t (by omega) hs, gck_t, nI_clamp (by omega), xRq_ok hW h hs, gck_t]
    have hh := h.sh s hs
    cases hS : S.sh s with
    | none =>
      rw [hS] at hh
      rw [if_pos (show gR G (28 + s) 0 = none from hh)]
      exact ⟨_, rfl, h, rfl⟩
    | some q =>
      obtain ⟨k, l⟩ := q
      rw [hS] at hh
      obtain ⟨l1, l2, -⟩ := xlane_ok hW h hs hS
      rw [if_neg (show ¬ gR G (28 + s) 0 = none by rw [hh.1]; simp), gck_t, l2, obind_some]
      simp only [gck_t, gLet_e]
      refine ⟨_, rfl, h.setSh hW (fun _ _ => rfl) (gOff.rf.R1 (by simp)) hs (fun k j hk => ?_) (fun k j n hn => ?_) ?_, rfl⟩
      · rw [gR_R1, if_neg (fun z => hk z.1)]
      · rw [gR_R1] at hn
        split at hn
        · cases hn
        · exact h.rk _ _ _ hn
      · show gR _ (28 + s) 0 = none
        rw [gR_R1, if_pos ⟨rfl, rfl⟩]
theorem xSh.q {T : Nat → Nat × Nat} {G G' : gP} {s : Nat} {o : Option (Nat × List Int64)} (h : xSh T G s o) (hq : qP G G') : xSh T G' s o := h.off hq.1 (hq.2 _ _) (fun j => by simp [cqZ, wZ, liZ]; omega)
theorem isSo_ok {S : St} {T : Nat → Nat × Nat} {G : gP} (hW : S.Wf) (h : xSt S T G) {s k i n : Nat} {l : List Int64} (hs : s < 4) (hS : S.sh s = some (k, l)) (hn0 : 1 ≤ n) (hn : n < 7) (hil : i + n ≤ l.length) : Ok (f_X0_isSo T G (28 + s) (nI i) (nI n)) (qA G (bI (mnB S.now l i n))) := by
  unfold f_X0_isSo
  have hL := hW.now
  have hw := hW.sh s k l hS
  refine Ok.bind (first_ok hL h.xn h.rk) (fun G1 h1 => ?_)
  obtain ⟨hf, hq⟩ := h1
  have hx1 : xSt S T G1 := h.q hW hq
  obtain ⟨-, -, hget⟩ := xlane_ok hW hx1 hs hS
  simp only [gLet_e]
  rw [isAny_I hL hf]
  refine Ok.bind (Q := fun y => y = bI (mnB S.now l i n)) ?_ (fun y hy => by subst hy; rw [bI_Z, gck_t]; exact ⟨_, rfl, hq, rfl⟩)
  unfold mnB
  have hfalse : (decide (S.now.bn.length = n) = false) → Ok (gloop (f_X0_isSo_b33 (nI n) T G1 (28 + s) (nI i)) gFu (bI false, (0 : Int32))) (fun y => y = bI (decide (S.now.bn.length = n) && allB (fun k => decide ((nI (nsF S.now.bn k)).toInt64 = l.getD (i + k) 0)) n)) := by
    intro hd
    rw [hd, Bool.false_and]
    refine Ok.out (r := bI false) ?_ rfl
    unfold f_X0_isSo_b33
    simp only
    rw [if_neg (show ¬ nI n ≤ 0 from nI_nle (by omega) (by omega)), if_pos (show bI false = 0 from rfl)]
  cases hB : S.now.B with
  | none =>
    rw [if_pos (show bI (none : Option Nat).isSome = 0 from rfl)]
    exact hfalse (decide_eq_false (by rw [S.now.bn_none hB]; simp; omega))
  | some b =>
    rw [if_neg (show ¬ bI (some b).isSome = 0 by show ¬ bI true = 0; decide)]
    obtain ⟨b1, b2, b3, b4, b5, b6⟩ := hf.bn hB
    have hb8 := b5.2.1
    have e0 : (if gS G1 526 6 = nI n then (1 : Int32) else 0) = bI (decide (S.now.bn.length = n)) := by rw [b3]; exact ite_I (by omega) (by omega)
    rw [e0]
    by_cases hl2 : S.now.bn.length = n
    · rw [decide_eq_true hl2]
      refine cmpL (a := 0) (N := n) (c := fun k => decide ((nI (nsF S.now.bn k)).toInt64 = l.getD (i + k) 0)) (by omega) (fun bb k hk => ?_) (fun bb => ?_) true
      · rw [Nat.zero_add]
        unfold f_X0_isSo_b33
        simp only
        rw [if_neg (nI_ge hk (by omega))]
        cases bb
        · rw [if_pos (show bI false = 0 from rfl), if_neg (by decide)]
        · have gk := nsF_aL b4 (show k < S.now.bn.length by omega)
          rw [Nat.zero_add] at gk
          rw [if_neg (show ¬ bI true = 0 by decide), nI_add, hget (i + k) (by omega), obind_some, gIn_t (by omega) (by omega), gck_t, nI_clamp (by omega), gk, if_pos rfl, nI_1]
          by_cases e : (nI (nsF S.now.bn k)).toInt64 = l.getD (i + k) 0
          · rw [if_pos e.symm, decide_eq_true e]; rfl
          · rw [if_neg (fun z => e z.symm), decide_eq_false e]; rfl
      · rw [Nat.zero_add]
        unfold f_X0_isSo_b33
        simp only
        rw [if_pos (nI_le (Nat.le_refl _) (by omega))]
    · have hd := decide_eq_false hl2
      have := hfalse hd
      rw [hd]
      rw [hd] at this
      exact this
theorem kd_S (S : St) : ((St.of (S.now.kd S.now.kind) (S.past) (S.kept) (S.tape) (S.sh)) : St) = S := rfl
theorem xSt.kd {S : St} {T : Nat → Nat × Nat} {G : gP} (hW : S.Wf) {kd v : Nat} (hkd : kd < 5) (h : xSt (St.of (S.now.kd kd) (S.past) (S.kept) (S.tape) (S.sh)) T G) : xSt (St.of (S.now.kd v) (S.past) (S.kept) (S.tape) (S.sh)) T (gS1 G 32 2 (nI v)) := by
  have hL := hW.now
  have h8 := hL.n8
  have hnk : xNow G (S.now.kd kd) := h.xn
  refine h.now' (L := S.now.kd v) (hW.nowp (hL.kd hkd)) (gOff.rf.S1 (by simp [nZ])) (rSame.rf.S1) ⟨?_, gS_at, ?_, ?_, fun p hp => ?_⟩
  · rw [gS_ne (by decide)]; exact hnk.1.1
  · rw [gS_ne (by decide)]; exact hnk.1.2.2.1
  · rw [gS_ne (by decide)]; exact hnk.1.2.2.2.1
  · have hp' : p < S.now.n := hp
    have rp := hnk.2.rng (j := p) (by omega)
    exact (hnk.1.2.2.2.2 p hp).off (Z := fun k _ => decide (k = 32)) (gOff.rf.S1 (by simp)) (fun k j a b => by simp; omega)
theorem xmeant_ok {S : St} {T : Nat → Nat × Nat} {G : gP} (hW : S.Wf) (h : xSt S T G) (a b i n : Int32) : Ok (f_X0_meant T G a b i n) (fun q => xSt S T q.1 ∧ q.2 = sMeant S a b i n) := by
  unfold f_X0_meant sMeant
  rw [xisSheet_rg, isIn_rg n (lo := 1) (hi := 7) rfl rfl]
  cases ha : rg a 0 4 with
  | none => exact ⟨_, rfl, h, rfl⟩
  | some s =>
    obtain ⟨-, hs, rfl⟩ := rg_some ha
    cases hb : rg b 0 4 with
    | none => exact ⟨_, rfl, h, rfl⟩
    | some k =>
      obtain ⟨-, hk, rfl⟩ := rg_some hb
      simp only [Option.isSome_some, Bool.and_self, if_true]
      rw [if_neg (by decide)]
      cases hn : rg n 1 7 with
      | none => exact ⟨_, rfl, h, rfl⟩
      | some nn =>
        obtain ⟨hn1, hn7, rfl⟩ := rg_some hn
        simp only [Option.isSome_some, if_true]
        rw [if_neg (by decide), lacks_ok hW h hs hk i (by omega), obind_some]
        by_cases h0 : whyS (S.sh s) k i nn = 0
        · rw [if_pos (whyS_n.mpr h0), if_pos h0]
          obtain ⟨l, hS, h1, h2⟩ := whyS_0 h0
          have hi : i = nI i.toInt.toNat := nJ_of (by omega)
          have hsl : shL S s = l := by unfold shL; rw [hS]
          have hw := hW.sh s k l hS
          have hil : i.toInt.toNat + nn ≤ l.length := by omega
          generalize i.toInt.toNat = ii at *
          subst hi
          have hL := hW.now
          simp only [gLet_e]
          rw [h.now.2.1, hsl]
          refine Ok.bind (Q := fun z => (∃ kd, kd < 5 ∧ xSt (St.of (S.now.kd kd) (S.past) (S.kept) (S.tape) (S.sh)) T z.1) ∧ z.2 = mnS S.now l ii nn 5) ?_ (fun z hz => ?_)
          · refine Ok.loop (fun f z => ∃ v, f + v = 5 ∧ z.2.2 = nI v ∧ (∃ kd, kd < 5 ∧ xSt (St.of (S.now.kd kd) (S.past) (S.kept) (S.tape) (S.sh)) T z.1) ∧ z.2.1 = mnS S.now l ii nn v) ?_ 6 5 _ (by omega) ⟨0, by omega, rfl, ⟨S.now.kind, hL.k5, (show xSt (St.of (S.now.kd S.now.kind) (S.past) (S.kept) (S.tape) (S.sh)) T G from h)⟩, rfl⟩
            rintro f ⟨G1, x, y⟩ ⟨v, hfv, hy, ⟨kd, hkd, hx1⟩, hx⟩
            simp only at hy hx1 hx
            subst hy hx
            unfold f_X0_meant_b57
            simp only
            cases f with
            | zero =>
              have : v = 5 := by omega
              subst this
              rw [if_pos (show (5 : Int32) ≤ nI 5 by decide)]
              exact ⟨_, rfl, ⟨kd, hkd, hx1⟩, rfl⟩
            | succ f =>
              have hv : v < 5 := by omega
              rw [if_neg (show ¬ (5 : Int32) ≤ nI v from nI_ge (b := 5) hv (by decide))]
              simp only [gLet_e]
              have hWk : ((St.of (S.now.kd v) (S.past) (S.kept) (S.tape) (S.sh)) : St).Wf := hW.nowp (hL.kd hv)
              have hx2 : xSt (St.of (S.now.kd v) (S.past) (S.kept) (S.tape) (S.sh)) T (gS1 G1 32 2 (nI v)) := hx1.kd hW hkd
              rw [gIn_t (by omega) hs, gck_t, nI_clamp (by omega)]
              generalize gS1 G1 32 2 (nI v) = G2 at *
              refine Ok.bind (isSo_ok hWk hx2 hs (k := k) (l := l) hS hn1 hn7 hil) (fun q hq => ?_)
              obtain ⟨G3, y3⟩ := q
              obtain ⟨hq1, hq2⟩ := hq
              simp only at hq1 hq2
              subst hq2
              refine ⟨_, rfl, f, by omega, v + 1, by omega, nI_1 v, ⟨v, hv, hx2.q hWk hq1⟩, ?_⟩
              simp only
              show _ = mnS S.now l ii nn v ||| (if mnB (S.now.kd v) l ii nn = true then gShl 1 (nI v) else 0)
              show mnS S.now l ii nn v ||| (if bI (mnB (S.now.kd v) l ii nn) = 0 then 0 else gShl 1 (nI v)) = _
              cases mnB (S.now.kd v) l ii nn
              · rw [if_pos (show bI false = 0 from rfl), if_neg (by decide)]
              · rw [if_neg (show ¬ bI true = 0 by decide), if_pos rfl]
          · obtain ⟨G1, x⟩ := z
            obtain ⟨⟨kd, hkd, hx1⟩, hx⟩ := hz
            simp only at hx1 hx
            refine ⟨_, rfl, ?_, hx⟩
            exact hx1.kd (v := S.now.kind) hW hkd
        · rw [if_neg (fun z => h0 (whyS_n.mp z)), if_neg h0]; exact ⟨_, rfl, h, rfl⟩
theorem lay_sh {S : St} {T : Nat → Nat × Nat} {G : gP} (hW : S.Wf) (h : xSt S T G) {s k i : Nat} {l : List Int64} (hs : s < 4) (hS : S.sh s = some (k, l)) (hi : i < l.length) (v : Int64) : Ok (f_X9_lay T G (28 + s) (nI k) (nI i) v) (fun G' => gOff (fun a j => decide (a = 539 + s ∧ j = i)) G G' ∧ rSame G G' ∧ shV G' k (539 + s) i = cutL k v) := by
  have hq := xRq_ok hW h hs
  have hh := h.sh s hs
  rw [hS] at hh
  obtain ⟨a1, a2, a3⟩ := hh
  have hw := hW.sh s k l hS
  have c1 : xCa T (some (539 + s)) (laT k) = some (539 + s) := by
    show (if 539 ≤ 539 + s ∧ (T (539 + s)).1 = laT k then some (539 + s) else none) = _
    rw [a2, if_pos ⟨by omega, rfl⟩]
  have t2 : (T (539 + s)).2 = l.length := by rw [a2]
  unfold f_X9_lay
  rw [hq, a1]
  simp only [gck_t]
  have hc : k = 0 ∨ k = 1 ∨ k = 2 ∨ k = 3 := by omega
  rcases hc with rfl | rfl | rfl | rfl
  · have e : laT 0 = 103 := rfl
    rw [e] at c1
    rw [if_pos (show nI 0 = 0 from rfl), c1, obind_some, t2, gIn_t (by omega) hi, gck_t, nI_clamp (by omega)]
    refine ⟨_, rfl, gOff.rf.S1 (by simp), rSame.rf.S1, ?_⟩
    unfold shV cutL
    rw [if_neg (by decide), gS_at, if_pos rfl, pk_vb]
  · have e : laT 1 = 104 := rfl
    rw [e] at c1
    rw [if_neg (by decide), if_pos (show nI 1 = 1 from rfl), c1, obind_some, t2, gIn_t (by omega) hi, gck_t, nI_clamp (by omega)]
    refine ⟨_, rfl, gOff.rf.S1 (by simp), rSame.rf.S1, ?_⟩
    unfold shV cutL
    rw [if_neg (by decide), gS_at, if_neg (by decide), if_pos rfl, pk_vs]
  · have e : laT 2 = 100 := rfl
    rw [e] at c1
    rw [if_neg (by decide), if_neg (by decide), if_pos (show nI 2 = 2 from rfl), c1, obind_some, t2, gIn_t (by omega) hi, gck_t, nI_clamp (by omega)]
    refine ⟨_, rfl, gOff.rf.S1 (by simp), rSame.rf.S1, ?_⟩
    unfold shV cutL
    rw [if_neg (by decide), gS_at, if_neg (by decide), if_neg (by decide), if_pos rfl]
  · have e : laT 3 = 101 := rfl
    rw [e] at c1
    rw [if_neg (by decide), if_neg (by decide), if_neg (by decide), c1, obind_some, t2, gIn_t (by omega) hi, gck_t, nI_clamp (by omega)]
    refine ⟨_, rfl, gOff.rf.L1 (by simp), rSame.rf.L1, ?_⟩
    unfold shV cutL
    rw [if_pos rfl, gL_at, if_neg (by decide), if_neg (by decide), if_neg (by decide)]
theorem shV_off {Z : Nat → Nat → Bool} {G G' : gP} {k r i : Nat} (hO : gOff Z G G') (hz : Z r i = false) : shV G' k r i = shV G k r i := by
  unfold shV
  rw [(hO r i hz).1, (hO r i hz).2.1]
theorem St.Wf.setSh {S : St} (h : S.Wf) {s k : Nat} {l : List Int64} (hk : k < 4) (hl : l.length ≤ 24) : (S.setSh s (some (k, l))).Wf := by
  refine ⟨h.now, h.past, h.p8, h.kept, h.tape, fun x k' l' e => ?_⟩
  have e' : (if x = s then some (k, l) else S.sh x) = some (k', l') := e
  by_cases hx : x = s
  · rw [if_pos hx] at e'; cases e'; exact ⟨hk, hl⟩
  · rw [if_neg hx] at e'; exact h.sh x k' l' e'
theorem St.Wf.setSh0 {S : St} (h : S.Wf) {s : Nat} : (S.setSh s none).Wf := by
  refine ⟨h.now, h.past, h.p8, h.kept, h.tape, fun x k' l' e => ?_⟩
  have e' : (if x = s then none else S.sh x) = some (k', l') := e
  by_cases hx : x = s
  · rw [if_pos hx] at e'; cases e'
  · rw [if_neg hx] at e'; exact h.sh x k' l' e'
theorem xfilm_ok {S : St} {T : Nat → Nat × Nat} {G : gP} (hW : S.Wf) (h : xSt S T G) (a b i : Int32) : Ok (f_X0_film T G a b i) (xA T (sFilm S a b i)) := by
  unfold f_X0_film sFilm
  rw [xisSheet_rg]
  cases ha : rg a 0 4 with
  | none => exact ⟨_, rfl, h, rfl⟩
  | some s =>
    obtain ⟨-, hs, rfl⟩ := rg_some ha
    cases hb : rg b 0 4 with
    | none => exact ⟨_, rfl, h, rfl⟩
    | some k =>
      obtain ⟨-, hk, rfl⟩ := rg_some hb
      simp only [Option.isSome_some, Bool.and_self, if_true]
      rw [if_neg (by decide)]
      have hL := hW.now
      refine Ok.bind (first_ok hL h.xn h.rk) (fun G1 h1 => ?_)
      obtain ⟨hf, hq⟩ := h1
      have hx1 : xSt S T G1 := h.q hW hq
      rw [isAny_I hL hf]
      cases hB : S.now.B with
      | none => rw [if_pos (show bI (none : Option Nat).isSome = 0 from rfl)]; exact ⟨_, rfl, hx1, rfl⟩
      | some bb =>
        obtain ⟨b1, b2, b3, b4, b5, b6⟩ := hf.bn hB
        have hb8 := b5.2.1
        rw [if_neg (show ¬ bI (some bb).isSome = 0 by show ¬ bI true = 0; decide), b3, lacks_ok hW hx1 hs hk i (by omega), obind_some]
        simp only
        by_cases h0 : whyS (S.sh s) k i S.now.bn.length = 0
        · rw [if_pos (whyS_n.mpr h0), if_pos h0]
          obtain ⟨l, hS, h1, h2⟩ := whyS_0 h0
          have hw := hW.sh s k l hS
          have hi : i = nI i.toInt.toNat := nJ_of (by omega)
          have hsl : shL S s = l := by unfold shL; rw [hS]
          have hil : i.toInt.toNat + S.now.bn.length ≤ l.length := by omega
          rw [hsl]
          generalize i.toInt.toNat = ii at *
          subst hi
          have hh := hx1.sh s hs
          rw [hS] at hh
          obtain ⟨a1, a2, a3⟩ := hh
          refine Ok.bind (Q := fun G2 => gOff (fun k x => decide (k = 539 + s ∧ ii ≤ x ∧ x < ii + S.now.bn.length)) G1 G2 ∧ rSame G1 G2 ∧ ∀ x, x < S.now.bn.length → shV G2 k (539 + s) (ii + x) = cutL k ((nI (nsF S.now.bn x)).toInt64)) ?_ (fun G2 h3 => ?_)
          · refine Ok.up (fun t z => z.2 = nI t ∧ gOff (fun k x => decide (k = 539 + s ∧ ii ≤ x ∧ x < ii + S.now.bn.length)) G1 z.1 ∧ rSame G1 z.1 ∧ ∀ x, x < t → shV z.1 k (539 + s) (ii + x) = cutL k ((nI (nsF S.now.bn x)).toInt64)) S.now.bn.length (by omega) ?_ ?_ ⟨rfl, gOff.rf, rSame.rf, fun x hx => by omega⟩
            · rintro t ⟨G2, x⟩ ht ⟨hx, hO, hr, hc⟩
              simp only at hx hO hr hc
              subst hx
              unfold f_X0_film_b52
              simp only
              have gk := nsF_aL b4 ht
              rw [Nat.zero_add] at gk
              rw [(hO 526 6 (by simp; omega)).1, b3, if_neg (nI_ge ht (by omega)), gIn_t (show s < 2 ^ 31 by omega) hs, gck_t, gIn_t (show t < 2 ^ 31 by omega) (by omega), gck_t, nI_clamp (by omega), nI_clamp (by omega), nI_add, (hO 528 t (by simp; omega)).1, gk]
              -- the state between: some list lies there
              have hx2 : xSt (S.setSh s (some (k, lF l.length (fun x => shV G2 k (539 + s) x)))) T G2 := hx1.setSh hW (fun _ _ => rfl) (hO.w (fun k j z => by simp at z ⊢; omega)) hs (fun k j _ => hr k j) (hx1.rk.same hr) ⟨by rw [hr]; exact a1, by rw [lF_len]; exact a2, fun x v hx => by obtain ⟨-, rfl⟩ := lF_get hx; rfl⟩
              have hW2 : (S.setSh s (some (k, lF l.length (fun x => shV G2 k (539 + s) x)))).Wf := hW.setSh hk (by rw [lF_len]; exact hw.2)
              have hS2 : (S.setSh s (some (k, lF l.length (fun x => shV G2 k (539 + s) x)))).sh s = some (k, lF l.length (fun x => shV G2 k (539 + s) x)) := by
                show (if s = s then _ else _) = _
                rw [if_pos rfl]
              refine Ok.bind (lay_sh hW2 hx2 hs hS2 (by rw [lF_len]; omega) _) (fun G3 h3 => ?_)
              obtain ⟨hO3, hr3, hv3⟩ := h3
              refine ⟨_, rfl, nI_1 t, hO.tr (hO3.w (fun k j z => by simp at z ⊢; omega)), hr.tr hr3, fun y hy => ?_⟩
              simp only
              by_cases e : y = t
              · subst e; exact hv3
              · rw [shV_off hO3 (by simp; omega)]; exact hc y (by omega)
            · rintro ⟨G2, x⟩ ⟨hx, hO, hr, hc⟩
              simp only at hx hO hr hc
              subst hx
              unfold f_X0_film_b52
              simp only
              rw [(hO 526 6 (by simp; omega)).1, b3, if_pos (nI_le (Nat.le_refl _) (by omega))]
              exact ⟨_, rfl, hO, hr, hc⟩
          · obtain ⟨hO2, hr2, hc2⟩ := h3
            refine ⟨_, rfl, hx1.setSh hW (fun _ _ => rfl) (hO2.w (fun k j z => by simp at z ⊢; omega)) hs (fun k j _ => hr2 k j) (hx1.rk.same hr2) ⟨by rw [hr2]; exact a1, by rw [lF_len]; exact a2, fun x v hx => ?_⟩, ?_⟩
            · obtain ⟨hx1', rfl⟩ := lF_get hx
              by_cases e : ii ≤ x ∧ x < ii + S.now.bn.length
              · rw [if_pos e, ← hc2 (x - ii) (by omega), show ii + (x - ii) = x by omega]
              · rw [if_neg e, shV_off hO2 (by simp; omega)]
                exact a3 x _ (getD_mem 0 hx1')
            · simp only
              rw [(hO2 526 6 (by simp; omega)).1]; exact b3
        · rw [if_neg (fun z => h0 (whyS_n.mp z)), if_neg h0]; exact ⟨_, rfl, hx1, rfl⟩
end
