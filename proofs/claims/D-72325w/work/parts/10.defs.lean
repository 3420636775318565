/-! THE MEMORY BY IDS: planes of ints, longs, references; a cell has an id, a shape (T), an address (ad) -/
abbrev gP : Type := (Nat → Nat → Int32) × (Nat → Nat → Int64) × (Nat → Nat → Option Nat)
def gS (G : gP) (k j : Nat) : Int32 := G.1 k j
def gL (G : gP) (k j : Nat) : Int64 := G.2.1 k j
def gR (G : gP) (k j : Nat) : Option Nat := G.2.2 k j
def gS1 (G : gP) (k j : Nat) (v : Int32) : gP := (va_up G.1 k (upd (G.1 k) j v), G.2.1, G.2.2)
def gL1 (G : gP) (k j : Nat) (v : Int64) : gP := (G.1, va_up G.2.1 k (vp_updL (G.2.1 k) j v), G.2.2)
def gR1 (G : gP) (k j : Nat) (v : Option Nat) : gP := (G.1, G.2.1, va_up G.2.2 k (va_up (G.2.2 k) j v))
theorem gS_S1 (G : gP) (k j a i : Nat) (v : Int32) : gS (gS1 G k j v) a i = if a = k ∧ i = j then v else gS G a i := by
  unfold gS gS1 va_up upd
  by_cases h : a = k
  · subst h
    by_cases h2 : i = j <;> simp [h2]
  · simp [h]
theorem gL_L1 (G : gP) (k j a i : Nat) (v : Int64) : gL (gL1 G k j v) a i = if a = k ∧ i = j then v else gL G a i := by
  unfold gL gL1 va_up vp_updL
  by_cases h : a = k
  · subst h
    by_cases h2 : i = j <;> simp [h2]
  · simp [h]
theorem gR_R1 (G : gP) (k j a i : Nat) (v : Option Nat) : gR (gR1 G k j v) a i = if a = k ∧ i = j then v else gR G a i := by
  unfold gR gR1 va_up
  by_cases h : a = k
  · subst h
    by_cases h2 : i = j <;> simp [h2]
  · simp [h]
theorem gS_L1 (G : gP) (k j a i : Nat) (v : Int64) : gS (gL1 G k j v) a i = gS G a i := rfl
theorem gS_R1 (G : gP) (k j a i : Nat) (v : Option Nat) : gS (gR1 G k j v) a i = gS G a i := rfl
theorem gL_S1 (G : gP) (k j a i : Nat) (v : Int32) : gL (gS1 G k j v) a i = gL G a i := rfl
theorem gL_R1 (G : gP) (k j a i : Nat) (v : Option Nat) : gL (gR1 G k j v) a i = gL G a i := rfl
theorem gR_S1 (G : gP) (k j a i : Nat) (v : Int32) : gR (gS1 G k j v) a i = gR G a i := rfl
theorem gR_L1 (G : gP) (k j a i : Nat) (v : Int64) : gR (gL1 G k j v) a i = gR G a i := rfl
/-- a field: 0 int, 1 long, 2 a reference that may change, 3 the cell that many ids behind it, else the cell of that id -/
def gF (ad : Nat → Nat) (G : gP) (k : Nat) (q : Nat × Nat) (j : Nat) : Value :=
  match q.1 with
  | 0 => .int (gS G k j)
  | 1 => .long (gL G k j)
  | 2 => va_rf ((gR G k j).map ad)
  | 3 => .ref (ad (k + q.2))
  | _ => .ref (ad q.2)
/-- the tables of a side: of a class how many fields, of a field what it is, of an array that never changes its first element's id -/
abbrev gB : Type := (Nat → Nat) × (Nat → Nat → Nat × Nat) × (Nat → Nat)
def gFs (B : gB) (ad : Nat → Nat) (G : gP) (k c : Nat) : List Value := (List.range (B.1 c)).map (fun j => gF ad G k (B.2.1 c j) j)
/-- a cell by its shape: below 100 an object of that class; 100 ints, 101 longs, 102 chars, 103 bytes, 104 shorts, 105 .. references; from 200 on arrays of references that never change -/
def gC (B : gB) (dA : Nat → ClassId) (ad : Nat → Nat) (G : gP) (T : Nat → Nat × Nat) (k : Nat) : va_E :=
  if (T k).1 < 100 then .inr ((T k).1, gFs B ad G k (T k).1)
  else if (T k).1 = 101 then .inl (dA 1, (T k).2, .inr (.inl (G.2.1 k)))
  else if (T k).1 < 105 then .inl (dA ((T k).1 - 100), (T k).2, .inl (G.1 k))
  else if (T k).1 < 200 then .inl (dA ((T k).1 - 100), (T k).2, .inr (.inr (.inr (.inr (fun j => (G.2.2 k j).map ad)))))
  else .inl (dA ((T k).1 - 200), (T k).2, .inr (.inr (.inr (.inr (fun j => if j < (T k).2 then some (ad (B.2.2 (T k).1 + j)) else none)))))
def gws (B : gB) (dA : Nat → ClassId) (ad : Nat → Nat) (G : gP) (T : Nat → Nat × Nat) (I : List Nat) : va_W := I.map (fun k => (ad k, gC B dA ad G T k))
theorem gws_get {B : gB} {dA : Nat → ClassId} {ad : Nat → Nat} {G : gP} {T : Nat → Nat × Nat} {I : List Nat} {i k : Nat} (hk : I[i]? = some k) : (gws B dA ad G T I)[i]? = some (ad k, gC B dA ad G T k) := by
  unfold gws
  rw [List.getElem?_map, hk]
  rfl
theorem gws_at {B : gB} {dA : Nat → ClassId} {ad : Nat → Nat} {G : gP} {T : Nat → Nat × Nat} {I : List Nat} {k : Nat} (hk : k ∈ I) : ∃ i : Nat, I[i]? = some k ∧ (gws B dA ad G T I)[i]? = some (ad k, gC B dA ad G T k) := by
  obtain ⟨i, hi⟩ := List.getElem?_of_mem hk
  exact ⟨i, hi, gws_get hi⟩
theorem gws_set {B : gB} {dA : Nat → ClassId} {ad : Nat → Nat} {A : Nat → Prop} {G G' : gP} {T : Nat → Nat × Nat} {I : List Nat} {i k : Nat} {e : va_E} (hD : va_D A (gws B dA ad G T I)) (hk : I[i]? = some k) (he : gC B dA ad G' T k = e) (ho : ∀ j, j ∈ I → j ≠ k → gC B dA ad G' T j = gC B dA ad G T j) : (gws B dA ad G T I).set i (ad k, e) = gws B dA ad G' T I := by
  have hi : i < I.length := (List.getElem?_eq_some_iff.mp hk).1
  have hl : ∀ X : gP, (gws B dA ad X T I).length = I.length := fun X => by simp [gws]
  apply List.ext_getElem?
  intro j
  by_cases hj : j = i
  · subst hj
    rw [List.getElem?_set_self (by rw [hl]; exact hi), gws_get hk, he]
  · rw [List.getElem?_set_ne (Ne.symm hj)]
    cases hjk : I[j]? with
    | none =>
      have h1 : I.length ≤ j := List.getElem?_eq_none_iff.mp hjk
      rw [List.getElem?_eq_none (by rw [hl]; exact h1), List.getElem?_eq_none (by rw [hl]; exact h1)]
    | some n =>
      have hne : n ≠ k := fun z => by
        subst z
        exact hj (hD.1 j i _ _ (gws_get hjk) (gws_get hk) rfl)
      rw [gws_get hjk, gws_get hjk, ho n (List.mem_of_getElem? hjk) hne]
theorem gC_obj {B : gB} {dA : Nat → ClassId} {ad : Nat → Nat} {G : gP} {T : Nat → Nat × Nat} {k c : Nat} (h : (T k).1 = c) (hc : c < 100) : gC B dA ad G T k = .inr (c, gFs B ad G k c) := by
  subst h
  unfold gC
  rw [if_pos hc]
theorem gC_long {B : gB} {dA : Nat → ClassId} {ad : Nat → Nat} {G : gP} {T : Nat → Nat × Nat} {k n : Nat} (h : T k = (101, n)) : gC B dA ad G T k = .inl (dA 1, n, .inr (.inl (G.2.1 k))) := by
  unfold gC
  rw [h]
  rfl
theorem gC_int {B : gB} {dA : Nat → ClassId} {ad : Nat → Nat} {G : gP} {T : Nat → Nat × Nat} {k t n : Nat} (h : T k = (t, n)) (ht : t = 100 ∨ t = 102 ∨ t = 103 ∨ t = 104) : gC B dA ad G T k = .inl (dA (t - 100), n, .inl (G.1 k)) := by
  unfold gC
  rw [h]
  rcases ht with rfl | rfl | rfl | rfl <;> rfl
theorem gC_ref {B : gB} {dA : Nat → ClassId} {ad : Nat → Nat} {G : gP} {T : Nat → Nat × Nat} {k t n : Nat} (h : T k = (t, n)) (ht : 105 ≤ t ∧ t < 200) : gC B dA ad G T k = .inl (dA (t - 100), n, .inr (.inr (.inr (.inr (fun j => (G.2.2 k j).map ad))))) := by
  unfold gC
  rw [h]
  dsimp only
  rw [if_neg (by omega), if_neg (by omega), if_neg (by omega), if_pos (by omega)]
theorem gC_con {B : gB} {dA : Nat → ClassId} {ad : Nat → Nat} {G : gP} {T : Nat → Nat × Nat} {k t n : Nat} (h : T k = (t, n)) (ht : 200 ≤ t) : gC B dA ad G T k = .inl (dA (t - 200), n, .inr (.inr (.inr (.inr (fun j => if j < n then some (ad (B.2.2 t + j)) else none))))) := by
  unfold gC
  rw [h]
  dsimp only
  rw [if_neg (by omega), if_neg (by omega), if_neg (by omega), if_neg (by omega)]
theorem gC_off {B : gB} {dA : Nat → ClassId} {ad : Nat → Nat} {G G' : gP} {T : Nat → Nat × Nat} {j : Nat} (h1 : G'.1 j = G.1 j) (h2 : G'.2.1 j = G.2.1 j) (h3 : G'.2.2 j = G.2.2 j) : gC B dA ad G' T j = gC B dA ad G T j := by
  have e : gFs B ad G' j (T j).1 = gFs B ad G j (T j).1 := by
    unfold gFs gF gS gL gR
    rw [h1, h2, h3]
  unfold gC
  rw [h1, h2, h3, e]
theorem gFs_at {B : gB} {ad : Nat → Nat} {G : gP} {k c j n : Nat} (hn : B.1 c = n) (hj : j < n) : (gFs B ad G k c)[j]? = some (gF ad G k (B.2.1 c j) j) := by
  unfold gFs
  rw [hn, List.getElem?_map, List.getElem?_range hj]
  rfl
theorem gFs_len {B : gB} {ad : Nat → Nat} {G : gP} {k c n : Nat} (hn : B.1 c = n) : (gFs B ad G k c).length = n := by simp [gFs, hn]
theorem gFs_set {B : gB} {ad : Nat → Nat} {G G' : gP} {k c j n : Nat} {v : Value} (hn : B.1 c = n) (hj : j < n) (hv : gF ad G' k (B.2.1 c j) j = v) (ho : ∀ i, i ≠ j → gF ad G' k (B.2.1 c i) i = gF ad G k (B.2.1 c i) i) : gFs B ad G' k c = (gFs B ad G k c).set j v := by
  apply List.ext_getElem?
  intro i
  by_cases hi : i = j
  · subst hi
    rw [List.getElem?_set_self (by rw [gFs_len hn]; exact hj), gFs_at hn hj, hv]
  · rw [List.getElem?_set_ne (Ne.symm hi)]
    by_cases hin : i < n
    · rw [gFs_at hn hin, gFs_at hn hin, ho i hi]
    · rw [List.getElem?_eq_none (by rw [gFs_len hn]; omega), List.getElem?_eq_none (by rw [gFs_len hn]; omega)]
theorem gF_S1 {ad : Nat → Nat} {G : gP} {k j : Nat} {v : Int32} (q : Nat × Nat) (i : Nat) (h : i ≠ j) : gF ad (gS1 G k j v) k q i = gF ad G k q i := by
  unfold gF
  rw [gS_S1, gL_S1, gR_S1, if_neg (fun z => h z.2)]
theorem gF_L1 {ad : Nat → Nat} {G : gP} {k j : Nat} {v : Int64} (q : Nat × Nat) (i : Nat) (h : i ≠ j) : gF ad (gL1 G k j v) k q i = gF ad G k q i := by
  unfold gF
  rw [gS_L1, gL_L1, gR_L1, if_neg (fun z => h z.2)]
theorem gF_R1 {ad : Nat → Nat} {G : gP} {k j : Nat} {v : Option Nat} (q : Nat × Nat) (i : Nat) (h : i ≠ j) : gF ad (gR1 G k j v) k q i = gF ad G k q i := by
  unfold gF
  rw [gS_R1, gL_R1, gR_R1, if_neg (fun z => h z.2)]
theorem gws_S1 {B : gB} {dA : Nat → ClassId} {ad : Nat → Nat} {A : Nat → Prop} {G : gP} {T : Nat → Nat × Nat} {I : List Nat} {i k j : Nat} {v : Int32} {e : va_E} (hD : va_D A (gws B dA ad G T I)) (hk : I[i]? = some k) (he : gC B dA ad (gS1 G k j v) T k = e) : (gws B dA ad G T I).set i (ad k, e) = gws B dA ad (gS1 G k j v) T I :=
  gws_set hD hk he (fun _ _ hi => gC_off (va_up_ne G.1 _ hi) rfl rfl)
theorem gws_L1 {B : gB} {dA : Nat → ClassId} {ad : Nat → Nat} {A : Nat → Prop} {G : gP} {T : Nat → Nat × Nat} {I : List Nat} {i k j : Nat} {v : Int64} {e : va_E} (hD : va_D A (gws B dA ad G T I)) (hk : I[i]? = some k) (he : gC B dA ad (gL1 G k j v) T k = e) : (gws B dA ad G T I).set i (ad k, e) = gws B dA ad (gL1 G k j v) T I :=
  gws_set hD hk he (fun _ _ hi => gC_off rfl (va_up_ne G.2.1 _ hi) rfl)
theorem gws_R1 {B : gB} {dA : Nat → ClassId} {ad : Nat → Nat} {A : Nat → Prop} {G : gP} {T : Nat → Nat × Nat} {I : List Nat} {i k j : Nat} {v : Option Nat} {e : va_E} (hD : va_D A (gws B dA ad G T I)) (hk : I[i]? = some k) (he : gC B dA ad (gR1 G k j v) T k = e) : (gws B dA ad G T I).set i (ad k, e) = gws B dA ad (gR1 G k j v) T I :=
  gws_set hD hk he (fun _ _ hi => gC_off rfl rfl (va_up_ne G.2.2 _ hi))
/-- a check in a pure function -/
def gck {α : Type} (b : Bool) (x : Option α) : Option α := if b = true then x else none
theorem gck_some {α : Type} {b : Bool} {x : Option α} {r : α} (h : gck b x = some r) : b = true ∧ x = some r := by
  unfold gck at h
  split at h
  · exact ⟨by assumption, h⟩
  · cases h
def gIn (i : Int32) (n : Nat) : Bool := decide (¬ (i < 0 ∨ n ≤ i.toNatClampNeg))
theorem gIn_in {i : Int32} {n : Nat} (h : gIn i n = true) : vp_in i n := by
  unfold gIn at h
  have h2 : ¬ (i < 0 ∨ n ≤ i.toNatClampNeg) := of_decide_eq_true h
  exact h2
def gNz (x : Int32) : Bool := decide (¬ x = 0)
def gNzL (x : Int64) : Bool := decide (¬ x = 0)
def gLet {α β : Type} (a : α) (f : α → β) : β := f a
theorem gLet_some {α β : Type} {a : α} {f : α → β} {r : β} (h : gLet a f = r) : ∃ x, x = a ∧ f x = r := ⟨a, rfl, h⟩
theorem gbind {α β : Type} {a : Option α} {f : α → Option β} {r : β} (h : a.bind f = some r) : ∃ x, a = some x ∧ f x = some r := by
  cases a with
  | none => cases h
  | some x => exact ⟨x, rfl, h⟩
theorem gif_pos {c : Prop} [d : Decidable c] {α : Type} {a b r : α} (h : c) (hf : @ite α c d a b = r) : a = r := by rw [if_pos h] at hf; exact hf
theorem gif_neg {c : Prop} [d : Decidable c] {α : Type} {a b r : α} (h : ¬ c) (hf : @ite α c d a b = r) : b = r := by rw [if_neg h] at hf; exact hf
/-- a loop: what one turn does: go on (inl) or come out (inr); so many turns at most -/
def gloop {σ ρ : Type} (f : σ → Option (σ ⊕ ρ)) : Nat → σ → Option ρ
  | 0, _ => none
  | n + 1, s => (f s).bind fun r => match r with
    | .inl s' => gloop f n s'
    | .inr x => some x
theorem gloop_0 {σ ρ : Type} {f : σ → Option (σ ⊕ ρ)} {s : σ} {r : ρ} (h : gloop f 0 s = some r) : False := by cases h
theorem gloop_s {σ ρ : Type} {f : σ → Option (σ ⊕ ρ)} {n : Nat} {s : σ} {r : ρ} (h : gloop f (n + 1) s = some r) : (∃ s', f s = some (.inl s') ∧ gloop f n s' = some r) ∨ f s = some (.inr r) := by
  unfold gloop at h
  obtain ⟨x, h1, h2⟩ := gbind h
  cases x with
  | inl s' => exact Or.inl ⟨s', h1, h2⟩
  | inr x => cases h2; exact Or.inr h1

def gRem (x y : Int32) : Int32 := x - x / y * y
def gRemL (x y : Int64) : Int64 := x - x / y * y
def gShl (x y : Int32) : Int32 := x <<< (y &&& 31)
def gShr (x y : Int32) : Int32 := x >>> (y &&& 31)
def gUshr (x y : Int32) : Int32 := (x.toUInt32 >>> (y.toUInt32 &&& Int32.toUInt32 31)).toInt32
def gShlL (x : Int64) (y : Int32) : Int64 := x <<< (y.toInt64 &&& 63)
def gShrL (x : Int64) (y : Int32) : Int64 := x >>> (y.toInt64 &&& 63)
def gUshrL (x : Int64) (y : Int32) : Int64 := (x.toUInt64 >>> (y.toInt64.toUInt64 &&& Int64.toUInt64 63)).toInt64
def gMax (x y : Int32) : Int32 := if x < y then y else x
def gMin (x y : Int32) : Int32 := if y < x then y else x
def gFu : Nat := 18446744073709551616
def gnx {σ ρ : Type} (f : σ → Option (σ ⊕ ρ)) (n : Nat) (z : σ ⊕ ρ) : Option ρ := match z with
  | .inl s => gloop f n s
  | .inr x => some x
def gsum {α β γ : Type} (z : α ⊕ β) (f : α → γ) (h : β → γ) : γ := match z with
  | .inl a => f a
  | .inr b => h b
def gZ (x : Int32) : Bool := decide (x = 0 ∨ x = 1)
def mK : Nat → Nat × Nat := fun j => match j with
  | 0 => (4, 1)
  | 1 => (4, 2)
  | 2 => (4, 3)
  | 3 => (0, 0)
  | 4 => (0, 0)
  | 5 => (4, 4)
  | 6 => (0, 0)
  | 7 => (0, 0)
  | 8 => (0, 0)
  | 9 => (0, 0)
  | 10 => (0, 0)
  | 11 => (0, 0)
  | 12 => (4, 5)
  | 13 => (0, 0)
  | 14 => (0, 0)
  | 15 => (0, 0)
  | 16 => (4, 6)
  | 17 => (4, 7)
  | 18 => (4, 8)
  | 19 => (4, 9)
  | 20 => (4, 10)
  | 21 => (0, 0)
  | 22 => (4, 11)
  | 23 => (0, 0)
  | 24 => (0, 0)
  | 25 => (4, 12)
  | 26 => (4, 13)
  | 27 => (0, 0)
  | 28 => (4, 14)
  | 29 => (0, 0)
  | 30 => (4, 15)
  | 31 => (4, 16)
  | 32 => (0, 0)
  | 33 => (4, 17)
  | 34 => (4, 18)
  | 35 => (4, 19)
  | _ => (4, 20)
def mB : gB := (fun _ => 37, fun _ j => mK j, fun _ => 0)
def mT : Nat → Nat × Nat := fun k => match k with
  | 0 => (11, 0)
  | 1 => (100, 76)
  | 2 => (100, 8)
  | 3 => (100, 9)
  | 4 => (100, 8)
  | 5 => (100, 8)
  | 6 => (100, 256)
  | 7 => (100, 60)
  | 8 => (101, 128)
  | 9 => (100, 128)
  | 10 => (100, 8)
  | 11 => (100, 120)
  | 12 => (100, 72)
  | 13 => (100, 10)
  | 14 => (100, 608)
  | 15 => (100, 76)
  | 16 => (100, 608)
  | 17 => (100, 4)
  | 18 => (100, 4)
  | 19 => (101, 96)
  | _ => (101, 24)
def mI : List Nat := List.range 21
def gSc (G : gP) (a sp b dp n : Nat) : gP := (va_up G.1 b (va_cpy (G.1 a) (G.1 b) sp dp n), G.2.1, G.2.2)
def gRc (G : gP) (a sp b dp n : Nat) : gP := (G.1, G.2.1, va_up G.2.2 b (va_cpy (G.2.2 a) (G.2.2 b) sp dp n))
def gCp (sp dp n : Int32) (n0 n1 : Nat) : Bool := decide (¬ sp < 0 ∧ ¬ dp < 0 ∧ ¬ n < 0 ∧ sp.toNatClampNeg + n.toNatClampNeg ≤ n0 ∧ dp.toNatClampNeg + n.toNatClampNeg ≤ n1)
def xNf : Nat → Nat := fun c => match c with
  | 0 => 22
  | 6 => 5
  | 7 => 3
  | 8 => 7
  | 9 => 1
  | 10 => 6
  | 13 => 8
  | 14 => 8
  | 15 => 4
  | 16 => 4
  | 17 => 4
  | 18 => 5
  | _ => 0
def xK : Nat → Nat → Nat × Nat := fun c j => match c, j with
  | 0, 0 => (4, 1)
  | 0, 1 => (4, 32)
  | 0, 2 => (4, 2)
  | 0, 3 => (4, 3)
  | 0, 4 => (4, 4)
  | 0, 6 => (4, 5)
  | 0, 7 => (4, 6)
  | 0, 8 => (4, 7)
  | 0, 9 => (4, 8)
  | 0, 10 => (4, 9)
  | 0, 13 => (4, 58)
  | 0, 14 => (4, 10)
  | 0, 15 => (4, 11)
  | 0, 17 => (4, 84)
  | 0, 18 => (4, 12)
  | 0, 21 => (4, 13)
  | 6, 0 => (3, 1)
  | 7, 0 => (3, 1)
  | 7, 1 => (3, 2)
  | 8, 0 => (2, 0)
  | 8, 1 => (2, 0)
  | 8, 2 => (2, 0)
  | 8, 3 => (2, 0)
  | 8, 4 => (2, 0)
  | 9, 0 => (2, 0)
  | 10, 5 => (4, 0)
  | 13, 0 => (4, 0)
  | 13, 4 => (3, 1)
  | 13, 5 => (3, 2)
  | 13, 7 => (4, 0)
  | 14, 0 => (4, 0)
  | 14, 3 => (3, 1)
  | 14, 7 => (4, 0)
  | 15, 0 => (4, 0)
  | 15, 3 => (4, 0)
  | 16, 0 => (4, 0)
  | 16, 1 => (4, 526)
  | 16, 3 => (4, 0)
  | 17, 0 => (4, 0)
  | 17, 1 => (4, 526)
  | 17, 3 => (4, 0)
  | 18, 0 => (4, 0)
  | 18, 2 => (1, 0)
  | 18, 3 => (1, 0)
  | 18, 4 => (4, 0)
  | _, _ => (0, 0)
def xCB : Nat → Nat := fun t => match t with
  | 209 => 14
  | 207 => 19
  | _ => 28
def xB : gB := (xNf, xK, xCB)
def xTl (r : Nat) : Nat × Nat := if r = 0 then (6, 0) else if r = 1 then (105, 8) else if (r - 2) % 3 = 0 then (7, 0) else (100, 4)
def xTs : Nat → Nat × Nat := fun k => match k with
  | 0 => (0, 0)
  | 1 => (209, 5)
  | 2 => (100, 8)
  | 3 => (207, 9)
  | 4 => (100, 8)
  | 5 => (100, 480)
  | 6 => (100, 480)
  | 7 => (100, 60)
  | 8 => (8, 0)
  | 9 => (102, 120)
  | 10 => (100, 32)
  | 11 => (106, 8)
  | 12 => (106, 8)
  | 13 => (208, 4)
  | 14 => (1, 0)
  | 15 => (2, 0)
  | 16 => (3, 0)
  | 17 => (4, 0)
  | 18 => (5, 0)
  | 19 => (10, 0)
  | 20 => (10, 0)
  | 21 => (10, 0)
  | 22 => (10, 0)
  | 23 => (10, 0)
  | 24 => (10, 0)
  | 25 => (10, 0)
  | 26 => (10, 0)
  | 27 => (10, 0)
  | 28 => (9, 0)
  | 29 => (9, 0)
  | 30 => (9, 0)
  | _ => (9, 0)
def xTd : Nat → Nat × Nat := fun k => match k with
  | 526 => (13, 0)
  | 527 => (100, 8)
  | 528 => (100, 8)
  | 529 => (14, 0)
  | 530 => (101, 8)
  | 531 => (15, 0)
  | 532 => (16, 0)
  | 533 => (17, 0)
  | 534 => (18, 0)
  | 535 => (7, 0)
  | 536 => (100, 4)
  | 537 => (100, 4)
  | _ => (100, 9)
def xT (k : Nat) : Nat × Nat := if k < 32 then xTs k else if k < 526 then xTl ((k - 32) % 26) else xTd k
def xWorth (j : Nat) : Int32 := if j < 20 then nI j else if j < 28 then nI (10 * (j - 18)) else if j = 28 then 100 else if j = 29 then 1000 else 0
def xNcL : List (String × String) := [("[B", "[S"), ("[B", "[I"), ("[B", "[J"), ("[S", "[B"), ("[S", "[I"), ("[S", "[J"), ("[I", "[B"), ("[I", "[S"), ("[I", "[J"), ("[J", "[B"), ("[J", "[S"), ("[J", "[I"), ("java/lang/ClassCastException", "java/lang/NullPointerException"), ("java/lang/ArrayIndexOutOfBoundsException", "java/lang/NullPointerException"), ("java/lang/ArrayIndexOutOfBoundsException", "java/lang/ClassCastException"), ("java/lang/ArrayStoreException", "java/lang/NullPointerException"), ("java/lang/ArrayIndexOutOfBoundsException", "java/lang/ArrayStoreException")]
def xOK (T : Nat → Nat × Nat) (I : List Nat) : Prop := (∀ k, k < 526 → k ∈ I) ∧ (∀ k, k < 539 → T k = xT k) ∧ (526 ∈ I → 527 ∈ I ∧ 528 ∈ I) ∧ (529 ∈ I → 530 ∈ I) ∧ (535 ∈ I → 536 ∈ I ∧ 537 ∈ I) ∧ (532 ∈ I → 526 ∈ I) ∧ (533 ∈ I → 526 ∈ I) ∧ ∀ k, 539 ≤ k → (k ∈ I ↔ 100 ≤ (T k).1) ∧ (T k).1 < 105
def xOb (T : Nat → Nat × Nat) (I : List Nat) (c k : Nat) : Prop := k ∈ I ∧ (T k).1 = c
def xSl (T : Nat → Nat × Nat) (I : List Nat) (k : Nat) : Prop := k ∈ I ∧ (T k).1 = 7 ∧ k + 1 ∈ I ∧ T (k + 1) = (100, 4) ∧ k + 2 ∈ I ∧ T (k + 2) = (100, 4)
def xLa (T : Nat → Nat × Nat) (I : List Nat) (k : Nat) : Prop := k ∈ I ∧ (T k).1 = 6 ∧ k + 1 ∈ I ∧ T (k + 1) = (105, 8)
def xLi (T : Nat → Nat × Nat) (I : List Nat) (k : Nat) : Prop := k ∈ I ∧ (k = 526 ∨ k = 529 ∨ k = 531 ∨ k = 532 ∨ k = 533 ∨ k = 534)
def xRef (o : Option Nat) (c : Nat) : Option Nat := o.bind fun k => if k < 526 ∧ (xT k).1 = c then some k else none
def gEl (G : gP) (a sp n c : Nat) : Bool := (List.range n).all fun i => match gR G a (sp + i) with
  | some k => decide (k < 526 ∧ (xT k).1 = c)
  | none => true
def xRk (G : gP) : Prop := ∀ k j n, gR G k j = some n → n < 526 ∨ 539 ≤ n
noncomputable def gDec (p : Prop) : Bool := @decide p (Classical.propDecidable p)
def xAg (ad ad' : Nat → Nat) : Prop := ∀ k, (k < 526 ∨ 539 ≤ k) → ad' k = ad k
def xNm (i : Nat) : String := match i with
  | 0 => "[I"
  | 1 => "[J"
  | 3 => "[B"
  | _ => "[S"
def xRw (T : Nat → Nat × Nat) (n : Nat) : Bool := decide (539 ≤ n ∧ ((T n).1 = 100 ∨ (T n).1 = 101 ∨ (T n).1 = 103 ∨ (T n).1 = 104))
def xRq (T : Nat → Nat × Nat) (o : Option Nat) : Bool := match o with
  | some n => xRw T n
  | none => true
def xIs (T : Nat → Nat × Nat) (o : Option Nat) (t : Nat) : Int32 := match o with
  | some n => if (T n).1 = t then 1 else 0
  | none => 0
def xCa (T : Nat → Nat × Nat) (o : Option Nat) (t : Nat) : Option Nat := o.bind fun n => if 539 ≤ n ∧ (T n).1 = t then some n else none
def xI0 (I : List Nat) : List Nat := I.filter (fun k => decide (k < 526 ∨ 539 ≤ k))
def gSa (G : gP) (k : Nat) (f : Nat → Int32) : gP := (va_up G.1 k f, G.2.1, G.2.2)
def gLa (G : gP) (k : Nat) (f : Nat → Int64) : gP := (G.1, va_up G.2.1 k f, G.2.2)
def xI1 (I : List Nat) : List Nat := I.filter (fun k => decide ((k < 526 ∨ 539 ≤ k) ∨ (526 ≤ k ∧ k ≤ 528)))
def xI2 (I : List Nat) : List Nat := I.filter (fun k => decide ((k < 526 ∨ 539 ≤ k) ∨ k = 538))
def xMk13 (G : gP)  : gP := (gSa (gSa (gSa G 527 (fun _ => 0)) 528 (fun _ => 0)) 526 (fun j => if j = 3 then 1000000 else 0))
def xI13 (I : List Nat) : List Nat := xI0 I ++ [527] ++ [528] ++ [526]
def xMk14 (G : gP) (a2 : Int32) (a3 : Int32) : gP := (gSa (gLa G 530 (fun _ => 0)) 529 (fun j => if j = 1 then a2 else if j = 4 then a3 else 0))
def xI14 (I : List Nat) : List Nat := xI0 I ++ [530] ++ [529]
def xMk15 (G : gP) (a2 : Int32) : gP := (gSa G 531 (fun j => if j = 1 then a2 else 0))
def xI15 (I : List Nat) : List Nat := xI0 I ++ [531]
def xMk16 (G : gP)  : gP := (gSa G 532 (fun j => if j = 2 then 1000000 else 0))
def xI16 (I : List Nat) : List Nat := xI1 I ++ [532]
def xMk17 (G : gP)  : gP := (gSa G 533 (fun _ => 0))
def xI17 (I : List Nat) : List Nat := xI1 I ++ [533]
def xMk18 (G : gP) (a2 : Int32) : gP := (gSa (gLa G 534 (fun _ => 0)) 534 (fun j => if j = 1 then a2 else 0))
def xI18 (I : List Nat) : List Nat := xI0 I ++ [534]
def xMk7 (G : gP) (a1 : Int32) : gP := (gSa (gSa (gSa G 536 (upd (fun _ => 0) (0 : Int32).toNatClampNeg a1)) 537 (upd (fun _ => 0) (0 : Int32).toNatClampNeg 0)) 535 (fun j => if j = 2 then 0 + 1 else 0))
def xI7 (I : List Nat) : List Nat := xI2 I ++ [536] ++ [537] ++ [535]
def f_X11_in (a0 : Int64) (a2 : Int64) (a4 : Int64) : Int32 :=
  if a0 < a2 then (0 : Int32) else if a4 < a0 then (0 : Int32) else (1 : Int32)
def f_X11_isSlot (G : gP) (a1 : Int32) : Int32 :=
  f_X11_in a1.toInt64 (0 : Int64) (((gS G 1 0) - (1 : Int32)).toInt64)
def f_X11_at (a1 : Int32) : Int32 :=
  (4 : Int32) + ((9 : Int32) * a1)
def f_X11_slot (G : gP) (a1 : Int32) (a2 : Int32) (a3 : Int32) : Option (Int32) :=
  if (f_X11_isSlot G a1) = 0 then some (-1 : Int32) else if a2 < (-1 : Int32) then some (-1 : Int32) else if (f_X11_in a3.toInt64 (0 : Int64) (1 : Int64)) = 0 then some (-1 : Int32) else if a2 = (-1 : Int32) then gck (gIn (f_X11_at a1) 76) (some (gS G 1 (f_X11_at a1).toNatClampNeg)) else gck (gIn (f_X11_at a1) 76) (if (gS G 1 (f_X11_at a1).toNatClampNeg) ≤ a2 then some (-4 : Int32) else gck (gIn ((((f_X11_at a1) + (1 : Int32)) + ((4 : Int32) * a3)) + a2) 76) (some (gS G 1 ((((f_X11_at a1) + (1 : Int32)) + ((4 : Int32) * a3)) + a2).toNatClampNeg)))
def f_X11_readings_b17 (G : gP) (q4 : Int32 × Int32) : Option ((Int32 × Int32) ⊕ (Int32)) :=
  if (gS G 1 0) ≤ q4.2 then some (.inr q4.1) else gck (gIn (f_X11_at q4.2) 76) (gLet (q4.1 * (gS G 1 (f_X11_at q4.2).toNatClampNeg)) fun x11 => some (.inl (x11, q4.2 + 1)))
def f_X11_readings (G : gP) : Option (Int32) :=
  gLet (if (gS G 1 0) = 0 then (0 : Int32) else (1 : Int32)) fun q1 => (gloop (f_X11_readings_b17 G) gFu (q1, (0 : Int32))).bind fun q5 => some q5
def f_X11_wordHere (G : gP) : Option (Int32) :=
  if (gS G 0 3) ≤ (gS G 0 7) then some (-4 : Int32) else gck (gIn (gS G 0 7) 9) (some (gS G 3 (gS G 0 7).toNatClampNeg))
def f_X11_worth (a0 : Int32) : Int32 :=
  if (f_X11_in a0.toInt64 (1 : Int64) (19 : Int64)) = 0 then if (f_X11_in a0.toInt64 (20 : Int64) (27 : Int64)) = 0 then (0 : Int32) else ((10 : Int32) * a0) - (180 : Int32) else a0
def f_X11_low (G : gP) : Option (gP × Int32) :=
  (f_X11_wordHere G).bind fun q1 => gLet (f_X11_worth q1) fun x3 => if x3 = 0 then some (G, (0 : Int32)) else gLet (gS1 G 0 7 ((gS G 0 7) + (1 : Int32))) fun G6 => if q1 ≤ (19 : Int32) then some (G6, x3) else (f_X11_wordHere G6).bind fun q9 => if (f_X11_in q9.toInt64 (1 : Int64) (9 : Int64)) = 0 then some (G6, x3) else (f_X11_wordHere G6).bind fun q13 => gLet (x3 + q13) fun x15 => gLet (gS1 G6 0 7 ((gS G6 0 7) + (1 : Int32))) fun G17 => some (G17, x15)
def f_X11_more (G : gP) : Option (gP × Int32) :=
  (f_X11_wordHere G).bind fun q1 => gLet (if q1 = (30 : Int32) then (1 : Int32) else (0 : Int32)) fun q3 => gLet (if q3 = 0 then (0 : Int32) else (1 : Int32)) fun q6 => gLet (gS1 G 0 7 ((gS G 0 7) + q6)) fun G9 => (f_X11_low G9).bind fun q11 => if q3 = 0 then some (q11.1, q11.2) else if q11.2 = 0 then some (q11.1, (-4 : Int32)) else some (q11.1, q11.2)
def f_X11_small (G : gP) : Option (gP × Int32) :=
  (f_X11_wordHere G).bind fun q1 => Option.bind (if (f_X11_in q1.toInt64 (1 : Int64) (9 : Int64)) = 0 then some (0 : Int32) else if (gS G 0 3) ≤ ((gS G 0 7) + (1 : Int32)) then some (0 : Int32) else gck (gIn ((gS G 0 7) + (1 : Int32)) 9) (if (gS G 3 ((gS G 0 7) + (1 : Int32)).toNatClampNeg) = (28 : Int32) then some (1 : Int32) else some (0 : Int32))) fun q4 => if q4 = 0 then (f_X11_low G).bind fun q17 => some (q17.1, q17.2) else (f_X11_wordHere G).bind fun q8 => gLet ((100 : Int32) * q8) fun x10 => gLet (gS1 G 0 7 ((gS G 0 7) + (2 : Int32))) fun G12 => (f_X11_more G12).bind fun q14 => if 0 ≤ q14.2 then some (q14.1, x10 + q14.2) else some (q14.1, (-4 : Int32))
def f_X11_number (G : gP) : Option (gP × Int32) :=
  (f_X11_small G).bind fun q1 => if q1.2 ≤ 0 then some (q1.1, q1.2) else (f_X11_wordHere q1.1).bind fun q4 => if q4 = (29 : Int32) then gLet (gS1 q1.1 0 7 ((gS q1.1 0 7) + (1 : Int32))) fun G7 => (f_X11_wordHere G7).bind fun q9 => Option.bind (if q9 = (30 : Int32) then (f_X11_more G7).bind fun q18 => some (q18.1, q18.2) else (f_X11_small G7).bind fun q16 => some (q16.1, q16.2)) fun q11 => if 0 ≤ q11.2 then some (q11.1, ((1000 : Int32) * q1.2) + q11.2) else some (q11.1, (-4 : Int32)) else some (q1.1, q1.2)
def f_X11_isSaid_b14  (q5 : gP × Int32 × Int32) : Option ((gP × Int32 × Int32) ⊕ (gP × Int32)) :=
  if q5.2.1 = 0 then some (.inr (q5.1, q5.2.1)) else if q5.2.2 = 0 then some (.inr (q5.1, q5.2.1)) else (f_X11_number q5.1).bind fun q12 => (f_X11_wordHere q12.1).bind fun q14 => gLet (if q14 = (31 : Int32) then (1 : Int32) else (0 : Int32)) fun q16 => gLet (if q12.2 ≤ 0 then (0 : Int32) else if q16 = 0 then if (gS q12.1 0 7) = (gS q12.1 0 3) then (1 : Int32) else (0 : Int32) else (1 : Int32)) fun q19 => gck (gIn (gS q12.1 0 6) 8) (gLet (gS1 q12.1 4 (gS q12.1 0 6).toNatClampNeg q12.2) fun G23 => gLet (gS1 G23 0 6 ((gS G23 0 6) + (1 : Int32))) fun G25 => if q16 = 0 then gLet (gS1 G25 0 7 ((gS G25 0 7) + (0 : Int32))) fun G28 => some (.inl (G28, q19, q16)) else gLet (gS1 G25 0 7 ((gS G25 0 7) + (1 : Int32))) fun G30 => some (.inl (G30, q19, q16)))
def f_X11_isSaid (G : gP) : Option (gP × Int32) :=
  gLet (gS1 G 0 7 (0 : Int32)) fun G1 => gLet (gS1 G1 0 6 (0 : Int32)) fun G3 => (gloop (f_X11_isSaid_b14) gFu (G3, (1 : Int32), (1 : Int32))).bind fun q6 => gck (gZ q6.2) (some (q6.1, q6.2))
def f_X11_takesPicked_b12  (q5 : gP × Int32) : Option ((gP × Int32) ⊕ (gP)) :=
  if (gS q5.1 1 0) ≤ q5.2 then some (.inr q5.1) else gck (gIn q5.2 8) (gck (gIn (((f_X11_at q5.2) + (1 : Int32)) + (gS q5.1 2 q5.2.toNatClampNeg)) 76) (gLet (gS q5.1 1 (((f_X11_at q5.2) + (1 : Int32)) + (gS q5.1 2 q5.2.toNatClampNeg)).toNatClampNeg) fun x13 => gck (gIn q5.2 8) (gck (gIn (((f_X11_at q5.2) + (5 : Int32)) + (gS q5.1 2 q5.2.toNatClampNeg)) 76) (gLet (gS1 q5.1 0 4 ((gS q5.1 0 4) + (gS q5.1 1 (((f_X11_at q5.2) + (5 : Int32)) + (gS q5.1 2 q5.2.toNatClampNeg)).toNatClampNeg))) fun G17 => if x13 = 0 then some (.inl (G17, q5.2 + 1)) else gck (gIn (gS G17 0 3) 9) (gLet (gS1 G17 3 (gS G17 0 3).toNatClampNeg x13) fun G21 => gLet (gS1 G21 0 3 ((gS G21 0 3) + (1 : Int32))) fun G23 => some (.inl (G23, q5.2 + 1)))))))
def f_X11_takesPicked (G : gP) : Option (gP × Int32) :=
  gLet (gS1 G 0 3 (0 : Int32)) fun G1 => gLet (gS1 G1 0 4 (0 : Int32)) fun G3 => (gloop (f_X11_takesPicked_b12) gFu (G3, (0 : Int32))).bind fun q6 => (f_X11_isSaid q6).bind fun q25 => some (q25.1, q25.2)
def f_X11_takes_b11  (q3 : gP × Int32 × Int32) : Option ((gP × Int32 × Int32) ⊕ (gP)) :=
  if q3.2.2 < 0 then some (.inr q3.1) else gck (gIn (f_X11_at q3.2.2) 76) (gck (gNz (gS q3.1 1 (f_X11_at q3.2.2).toNatClampNeg)) (gck (gIn q3.2.2 8) (gLet (gS1 q3.1 2 q3.2.2.toNatClampNeg (gRem q3.2.1 (gS q3.1 1 (f_X11_at q3.2.2).toNatClampNeg))) fun G12 => gck (gIn (f_X11_at q3.2.2) 76) (gck (gNz (gS G12 1 (f_X11_at q3.2.2).toNatClampNeg)) (gLet (q3.2.1 / (gS G12 1 (f_X11_at q3.2.2).toNatClampNeg)) fun x16 => some (.inl (G12, x16, q3.2.2 + (-1))))))))
def f_X11_takes (G : gP) (a1 : Int32) : Option (gP × Int32) :=
  gLet ((gS G 1 0) - (1 : Int32)) fun x1 => (gloop (f_X11_takes_b11) gFu (G, a1, x1)).bind fun q4 => (f_X11_takesPicked q4).bind fun q18 => some (q18.1, q18.2)
def f_X11_holds_b22 (G : gP) (q4 : Int32 × Int32 × Int32 × Int32) : Option ((Int32 × Int32 × Int32 × Int32) ⊕ (Int32 × Int32 × Int32)) :=
  if (gS G 0 6) ≤ (q4.2.2.2 + (1 : Int32)) then some (.inr (q4.1, q4.2.1, q4.2.2.1)) else gck (gIn q4.2.2.2 8) (gLet (q4.1 + (gS G 4 q4.2.2.2.toNatClampNeg)) fun x11 => Option.bind (if q4.2.1 = 0 then some (0 : Int32) else gck (gIn (q4.2.2.2 + (1 : Int32)) 8) (gck (gIn q4.2.2.2 8) (if (gS G 4 (q4.2.2.2 + (1 : Int32)).toNatClampNeg) ≤ (gS G 4 q4.2.2.2.toNatClampNeg) then some (0 : Int32) else some (1 : Int32)))) fun q13 => if q4.2.2.1 = 0 then some (.inl (x11, q13, (0 : Int32), q4.2.2.2 + 1)) else gck (gIn (q4.2.2.2 + (1 : Int32)) 8) (gck (gIn q4.2.2.2 8) (if ((gS G 4 (q4.2.2.2 + (1 : Int32)).toNatClampNeg) - (gS G 4 q4.2.2.2.toNatClampNeg)) = ((gS G 4 1) - (gS G 4 0)) then some (.inl (x11, q13, (1 : Int32), q4.2.2.2 + 1)) else some (.inl (x11, q13, (0 : Int32), q4.2.2.2 + 1)))))
def f_X11_holds (G : gP) : Option (Int32) :=
  gck (gIn ((gS G 0 6) - (1 : Int32)) 8) (gLet (gS G 4 ((gS G 0 6) - (1 : Int32)).toNatClampNeg) fun x2 => (gloop (f_X11_holds_b22 G) gFu ((0 : Int32), (1 : Int32), (1 : Int32), (0 : Int32))).bind fun q5 => if (gS G 1 1) = 1 then if (gS G 0 6) ≤ (1 : Int32) then some (0 : Int32) else if q5.1 = x2 then some (1 : Int32) else some (0 : Int32) else if (gS G 1 1) = 2 then gck (gZ q5.2.1) (some q5.2.1) else if (gS G 1 1) = 3 then if (gS G 0 6) ≤ (1 : Int32) then some (0 : Int32) else if (gRem q5.1 (100 : Int32)) = (gRem x2 (100 : Int32)) then some (1 : Int32) else some (0 : Int32) else if (gS G 1 1) = 4 then if q5.2.1 = 0 then some (0 : Int32) else if q5.2.2 = 0 then some (0 : Int32) else some (1 : Int32) else some (1 : Int32))
def f_X11_finds_b30 (q9 : Int32) (q11 : gP × Int32) : Option ((gP × Int32) ⊕ (gP)) :=
  if q9 ≤ q11.2 then some (.inr q11.1) else (f_X11_takes q11.1 q11.2).bind fun q17 => if q17.2 = 0 then some (.inl (q17.1, q11.2 + 1)) else gLet (gS1 q17.1 0 8 ((gS q17.1 0 8) + (1 : Int32))) fun G21 => (f_X11_holds G21).bind fun q23 => if q23 = 0 then some (.inl (G21, q11.2 + 1)) else gLet (gS1 G21 0 9 ((gS G21 0 9) + (1 : Int32))) fun G27 => gLet (if (gS G27 0 11) ≤ (gS G27 0 4) then gS G27 0 10 else q11.2) fun q29 => gLet (gS1 G27 0 10 q29) fun G32 => if (gS G32 0 11) ≤ (gS G32 0 4) then gLet (gS1 G32 0 11 (gS G32 0 11)) fun G35 => some (.inl (G35, q11.2 + 1)) else gLet (gS1 G32 0 11 (gS G32 0 4)) fun G37 => some (.inl (G37, q11.2 + 1))
def f_X11_finds_b160  (q49 : gP × Int32) : Option ((gP × Int32) ⊕ (gP)) :=
  if (gS q49.1 0 6) ≤ q49.2 then some (.inr q49.1) else gck (gIn q49.2 8) (gck (gIn q49.2 8) (gLet (gS1 q49.1 5 q49.2.toNatClampNeg (gS q49.1 4 q49.2.toNatClampNeg)) fun G57 => some (.inl (G57, q49.2 + 1))))
def f_X11_finds (G : gP) : Option (gP) :=
  gLet (gS1 G 0 8 (0 : Int32)) fun G1 => gLet (gS1 G1 0 9 (0 : Int32)) fun G3 => gLet (gS1 G3 0 10 (-4 : Int32)) fun G5 => gLet (gS1 G5 0 11 (9999 : Int32)) fun G7 => (f_X11_readings G7).bind fun q9 => (gloop (f_X11_finds_b30 q9) gFu (G7, (0 : Int32))).bind fun q12 => gLet (gS1 q12 0 13 (0 : Int32)) fun G40 => if (gS G40 0 10) = (-4 : Int32) then some G40 else (f_X11_takes G40 (gS G40 0 10)).bind fun q43 => if q43.2 = 0 then some q43.1 else gLet (gS1 q43.1 0 13 (gS q43.1 0 6)) fun G47 => (gloop (f_X11_finds_b160) gFu (G47, (0 : Int32))).bind fun q50 => some q50
def f_X11_isAsBest_b19 (G : gP) (q4 : Int32 × Int32) : Option ((Int32 × Int32) ⊕ (Int32)) :=
  if (gS G 0 13) ≤ q4.2 then some (.inr q4.1) else if q4.1 = 0 then some (.inr q4.1) else gck (gIn q4.2 8) (gck (gIn q4.2 8) (if (gS G 4 q4.2.toNatClampNeg) = (gS G 5 q4.2.toNatClampNeg) then some (.inl ((1 : Int32), q4.2 + 1)) else some (.inl ((0 : Int32), q4.2 + 1))))
def f_X11_isAsBest (G : gP) : Option (Int32) :=
  gLet (if (gS G 0 6) = (gS G 0 13) then (1 : Int32) else (0 : Int32)) fun q1 => (gloop (f_X11_isAsBest_b19 G) gFu (q1, (0 : Int32))).bind fun q5 => gck (gZ q5) (some q5)
def f_X11_counts_b18  (q7 : gP × Int32) : Option ((gP × Int32) ⊕ (gP)) :=
  if (256 : Int32) ≤ q7.2 then some (.inr q7.1) else gck (gIn q7.2 256) (gLet (gS1 q7.1 6 q7.2.toNatClampNeg (0 : Int32)) fun G14 => some (.inl (G14, q7.2 + 1)))
def f_X11_counts_b175  (q43 : gP × Int32) : Option ((gP × Int32) ⊕ (gP)) :=
  if (gS q43.1 1 0) ≤ q43.2 then some (.inr q43.1) else gck (gIn q43.2 8) (gck (gIn (((f_X11_at q43.2) + (1 : Int32)) + (gS q43.1 2 q43.2.toNatClampNeg)) 76) (gck (gIn (((32 : Int32) * q43.2) + (gS q43.1 1 (((f_X11_at q43.2) + (1 : Int32)) + (gS q43.1 2 q43.2.toNatClampNeg)).toNatClampNeg)) 256) (gck (gIn (((32 : Int32) * q43.2) + (gS q43.1 1 (((f_X11_at q43.2) + (1 : Int32)) + (gS q43.1 2 q43.2.toNatClampNeg)).toNatClampNeg)) 256) (gLet (gS1 q43.1 6 (((32 : Int32) * q43.2) + (gS q43.1 1 (((f_X11_at q43.2) + (1 : Int32)) + (gS q43.1 2 q43.2.toNatClampNeg)).toNatClampNeg)).toNatClampNeg ((gS q43.1 6 (((32 : Int32) * q43.2) + (gS q43.1 1 (((f_X11_at q43.2) + (1 : Int32)) + (gS q43.1 2 q43.2.toNatClampNeg)).toNatClampNeg)).toNatClampNeg) + (1 : Int32))) fun G53 => some (.inl (G53, q43.2 + 1))))))
def f_X11_counts_b58 (q16 : Int32) (q19 : gP × Int32) : Option ((gP × Int32) ⊕ (gP)) :=
  if q16 ≤ q19.2 then some (.inr q19.1) else (f_X11_takes q19.1 q19.2).bind fun q25 => Option.bind (if q25.2 = 0 then some (0 : Int32) else (f_X11_holds q25.1).bind fun q66 => if q66 = 0 then some (0 : Int32) else some (1 : Int32)) fun q28 => Option.bind (if q28 = 0 then some (gS q25.1 0 14) else if (gS q25.1 0 14) ≤ (gS q25.1 0 4) then some (gS q25.1 0 14) else (f_X11_isAsBest q25.1).bind fun q61 => if q61 = 0 then some (gS q25.1 0 4) else some (gS q25.1 0 14)) fun q31 => gLet (gS1 q25.1 0 14 q31) fun G34 => if q28 = 0 then some (.inl (G34, q19.2 + 1)) else if ((gS G34 0 11) + (gS G34 1 2)) < (gS G34 0 4) then some (.inl (G34, q19.2 + 1)) else Option.bind (if (60 : Int32) ≤ (gS G34 0 15) then some G34 else gck (gIn (gS G34 0 15) 60) (gLet (gS1 G34 7 (gS G34 0 15).toNatClampNeg q19.2) fun G57 => some G57)) fun q38 => gLet (gS1 q38 0 15 ((gS q38 0 15) + (1 : Int32))) fun G41 => (gloop (f_X11_counts_b175) gFu (G41, (0 : Int32))).bind fun q44 => some (.inl (q44, q19.2 + 1))
def f_X11_counts (G : gP) : Option (gP) :=
  (f_X11_finds G).bind fun q1 => gLet (gS1 q1 0 15 (0 : Int32)) fun G3 => gLet (gS1 G3 0 14 (9999 : Int32)) fun G5 => (gloop (f_X11_counts_b18) gFu (G5, (0 : Int32))).bind fun q8 => Option.bind (if (gS q8 0 10) = (-4 : Int32) then some (0 : Int32) else (f_X11_readings q8).bind fun q71 => some q71) fun q16 => (gloop (f_X11_counts_b58 q16) gFu (q8, (0 : Int32))).bind fun q20 => some q20
def f_X11_look_b25 (q1 : Int32 × Int32 × Int32) (G : gP) (q7 : Int32 × Int32) : Option ((Int32 × Int32) ⊕ (Int32)) :=
  if (32 : Int32) ≤ q7.2 then some (.inr q7.1) else gck (gIn (((32 : Int32) * q1.2.2) + q7.2) 256) (if (gS G 6 (((32 : Int32) * q1.2.2) + q7.2).toNatClampNeg) ≤ q7.1 then some (.inl (q7.1, q7.2 + 1)) else gck (gIn (((32 : Int32) * q1.2.2) + q7.2) 256) (gLet (gS G 6 (((32 : Int32) * q1.2.2) + q7.2).toNatClampNeg) fun x16 => some (.inl (x16, q7.2 + 1))))
def f_X11_look_b8 (G : gP) (q1 : Int32 × Int32 × Int32) : Option ((Int32 × Int32 × Int32) ⊕ (Int32)) :=
  if (gS G 1 0) ≤ q1.2.2 then some (.inr q1.1) else (gloop (f_X11_look_b25 q1 G) gFu ((0 : Int32), (0 : Int32))).bind fun q8 => gLet (if q1.2.1 ≤ q8 then q1.1 else q1.2.2) fun q18 => if q1.2.1 ≤ q8 then some (.inl (q18, q1.2.1, q1.2.2 + 1)) else some (.inl (q18, q8, q1.2.2 + 1))
def f_X11_look (G : gP) (a1 : Int32) : Option (Int32) :=
  (gloop (f_X11_look_b8 G) gFu ((-4 : Int32), a1, (0 : Int32))).bind fun q2 => some q2
def f_X11_tellsSame_b11  (q1 : gP × Int32) : Option ((gP × Int32) ⊕ (gP)) :=
  if (256 : Int32) ≤ q1.2 then some (.inr q1.1) else gck (gIn q1.2 256) (gLet (gS1 q1.1 6 q1.2.toNatClampNeg (0 : Int32)) fun G8 => some (.inl (G8, q1.2 + 1)))
def f_X11_tellsSame_b145 (q24 : gP × Int32) (q30 : Int32 × Int32) : Option ((Int32 × Int32) ⊕ (Int32)) :=
  if q24.2 ≤ q30.2 then some (.inr q30.1) else if q30.1 = 0 then some (.inr q30.1) else gck (gIn q30.2 8) (gck (gIn q30.2 8) (if (gS q24.1 4 q30.2.toNatClampNeg) = (gS q24.1 10 q30.2.toNatClampNeg) then some (.inl ((1 : Int32), q30.2 + 1)) else some (.inl ((0 : Int32), q30.2 + 1))))
def f_X11_tellsSame_b188  (q40 : gP × Int32) : Option ((gP × Int32) ⊕ (gP)) :=
  if (gS q40.1 1 0) ≤ q40.2 then some (.inr q40.1) else gck (gIn q40.2 8) (gck (gIn (((f_X11_at q40.2) + (1 : Int32)) + (gS q40.1 2 q40.2.toNatClampNeg)) 76) (gck (gIn (((32 : Int32) * q40.2) + (gS q40.1 1 (((f_X11_at q40.2) + (1 : Int32)) + (gS q40.1 2 q40.2.toNatClampNeg)).toNatClampNeg)) 256) (gck (gIn (((32 : Int32) * q40.2) + (gS q40.1 1 (((f_X11_at q40.2) + (1 : Int32)) + (gS q40.1 2 q40.2.toNatClampNeg)).toNatClampNeg)) 256) (gLet (gS1 q40.1 6 (((32 : Int32) * q40.2) + (gS q40.1 1 (((f_X11_at q40.2) + (1 : Int32)) + (gS q40.1 2 q40.2.toNatClampNeg)).toNatClampNeg)).toNatClampNeg ((gS q40.1 6 (((32 : Int32) * q40.2) + (gS q40.1 1 (((f_X11_at q40.2) + (1 : Int32)) + (gS q40.1 2 q40.2.toNatClampNeg)).toNatClampNeg)).toNatClampNeg) + (1 : Int32))) fun G50 => some (.inl (G50, q40.2 + 1))))))
def f_X11_tellsSame_b94  (q57 : gP × Int32) : Option ((gP × Int32) ⊕ (gP)) :=
  if (gS q57.1 0 6) ≤ q57.2 then some (.inr q57.1) else gck (gIn q57.2 8) (gck (gIn q57.2 8) (gLet (gS1 q57.1 10 q57.2.toNatClampNeg (gS q57.1 4 q57.2.toNatClampNeg)) fun G65 => some (.inl (G65, q57.2 + 1))))
def f_X11_tellsSame_b36 (a1 : Int64) (q10 : gP × Int32 × Int32 × Int32 × Int32) : Option ((gP × Int32 × Int32 × Int32 × Int32) ⊕ (gP × Int32 × Int32)) :=
  if (gS q10.1 0 15) ≤ q10.2.2.2.2 then some (.inr (q10.1, q10.2.1, q10.2.2.1)) else if ((gShrL a1 q10.2.2.2.2) &&& (1 : Int64)) = (1 : Int64) then gck (gIn q10.2.2.2.2 60) ((f_X11_takes q10.1 (gS q10.1 7 q10.2.2.2.2.toNatClampNeg)).bind fun q18 => gLet (if q18.2 = 0 then (0 : Int32) else if q10.2.1 = 0 then (0 : Int32) else (1 : Int32)) fun q21 => Option.bind (if q10.2.2.1 = 0 then gLet (gS q18.1 0 6) fun x55 => (gloop (f_X11_tellsSame_b94) gFu (q18.1, (0 : Int32))).bind fun q58 => some (q58, x55) else some (q18.1, q10.2.2.2.1)) fun q24 => gLet (if q21 = 0 then (0 : Int32) else if (gS q24.1 0 6) = q24.2 then (1 : Int32) else (0 : Int32)) fun q27 => (gloop (f_X11_tellsSame_b145 q24) gFu (q27, (0 : Int32))).bind fun q31 => (gloop (f_X11_tellsSame_b188) gFu (q24.1, (0 : Int32))).bind fun q41 => some (.inl (q41, q31, q10.2.2.1 + 1, q24.2, q10.2.2.2.2 + 1))) else some (.inl (q10.1, q10.2.1, q10.2.2.1, q10.2.2.2.1, q10.2.2.2.2 + 1))
def f_X11_tellsSame (G : gP) (a1 : Int64) : Option (gP × Int32) :=
  (gloop (f_X11_tellsSame_b11) gFu (G, (0 : Int32))).bind fun q2 => (gloop (f_X11_tellsSame_b36 a1) gFu (q2, (1 : Int32), (0 : Int32), (0 : Int32), (0 : Int32))).bind fun q11 => gLet (gS1 q11.1 0 21 q11.2.2) fun G69 => gck (gZ q11.2.1) (some (G69, q11.2.1))
def f_X11_partOf_b6 (a1 : Int64) (a3 : Int32) (a4 : Int32) (q1 : gP × Int64 × Int32) : Option ((gP × Int64 × Int32) ⊕ (gP × Int64)) :=
  if (gS q1.1 0 15) ≤ q1.2.2 then some (.inr (q1.1, q1.2.1)) else Option.bind (if ((gShrL a1 q1.2.2) &&& (1 : Int64)) = (1 : Int64) then gck (gIn q1.2.2 60) ((f_X11_takes q1.1 (gS q1.1 7 q1.2.2.toNatClampNeg)).bind fun q21 => if q21.2 = 0 then some (q21.1, (0 : Int32)) else some (q21.1, (1 : Int32))) else some (q1.1, (0 : Int32))) fun q7 => Option.bind (if q7.2 = 0 then some (0 : Int64) else gck (gIn a3 8) (gck (gIn (((f_X11_at a3) + (1 : Int32)) + (gS q7.1 2 a3.toNatClampNeg)) 76) (if (gS q7.1 1 (((f_X11_at a3) + (1 : Int32)) + (gS q7.1 2 a3.toNatClampNeg)).toNatClampNeg) = a4 then some (gShlL (1 : Int64) q1.2.2) else some (0 : Int64)))) fun q10 => gLet (q1.2.1 ||| q10) fun x13 => some (.inl (q7.1, x13, q1.2.2 + 1))
def f_X11_partOf (G : gP) (a1 : Int64) (a3 : Int32) (a4 : Int32) : Option (gP × Int64) :=
  (gloop (f_X11_partOf_b6 a1 a3 a4) gFu (G, (0 : Int64), (0 : Int32))).bind fun q2 => some (q2.1, q2.2)
def f_X11_questions_b113 (q24 : Int32) (x16 : Int64) (x19 : Int32) (q30 : gP × Int32 × Int32) : Option ((gP × Int32 × Int32) ⊕ (gP × Int32)) :=
  if q24 = (-4 : Int32) then some (.inr (q30.1, q30.2.1)) else gck (gIn (f_X11_at q24) 76) (if (gS q30.1 1 (f_X11_at q24).toNatClampNeg) ≤ q30.2.2 then some (.inr (q30.1, q30.2.1)) else gck (gIn (((f_X11_at q24) + (1 : Int32)) + q30.2.2) 76) ((f_X11_partOf q30.1 x16 q24 (gS q30.1 1 (((f_X11_at q24) + (1 : Int32)) + q30.2.2).toNatClampNeg)).bind fun q39 => if q39.2 = (0 : Int64) then some (.inl (q39.1, q30.2.1, q30.2.2 + 1)) else gck (gIn q30.2.1 128) (gLet (gL1 q39.1 8 q30.2.1.toNatClampNeg q39.2) fun G43 => gck (gIn q30.2.1 128) (gLet (gS1 G43 9 q30.2.1.toNatClampNeg (x19 + (1 : Int32))) fun G46 => some (.inl (G46, q30.2.1 + 1, q30.2.2 + 1))))))
def f_X11_questions_b48  (q9 : gP × Int32 × Int32) : Option ((gP × Int32 × Int32) ⊕ (gP × Int32)) :=
  if q9.2.2 ≤ 0 then some (.inr (q9.1, q9.2.1)) else gck (gIn (q9.2.2 + (-1)) 128) (gLet (gL q9.1 8 (q9.2.2 + (-1)).toNatClampNeg) fun x16 => gck (gIn (q9.2.2 + (-1)) 128) (gLet (gS q9.1 9 (q9.2.2 + (-1)).toNatClampNeg) fun x19 => (f_X11_tellsSame q9.1 x16).bind fun q21 => Option.bind (if q21.2 = 0 then (f_X11_look q21.1 (gS q21.1 0 21)).bind fun q50 => some q50 else some (-4 : Int32)) fun q24 => gLet (if x19 ≤ q9.2.1 then q9.2.1 else x19) fun q27 => (gloop (f_X11_questions_b113 q24 x16 x19) gFu (q21.1, q9.2.2 + (-1), (0 : Int32))).bind fun q31 => some (.inl (q31.1, q27, q31.2))))
def f_X11_questions (G : gP) : Option (gP × Int32) :=
  (f_X11_counts G).bind fun q1 => if (gS q1 0 15) = 0 then some (q1, (-4 : Int32)) else if (gS q1 0 15) ≤ (60 : Int32) then gLet (gL1 q1 8 0 ((gShlL (1 : Int64) (gS q1 0 15)) - (1 : Int64))) fun G5 => gLet (gS1 G5 9 0 (0 : Int32)) fun G7 => (gloop (f_X11_questions_b48) gFu (G7, (0 : Int32), (1 : Int32))).bind fun q10 => some (q10.1, q10.2) else some (q1, (-4 : Int32))
def f_X11_spoilt_b32 (q4 : gP × Int32 × Int32) (q10 : gP × Int32 × Int32) : Option ((gP × Int32 × Int32) ⊕ (gP × Int32)) :=
  gck (gIn (f_X11_at q4.2.2) 76) (if (gS q10.1 1 (f_X11_at q4.2.2).toNatClampNeg) ≤ q10.2.2 then some (.inr (q10.1, q10.2.1)) else (f_X11_takes q10.1 (gS q10.1 0 10)).bind fun q17 => gck (gIn q4.2.2 8) (gLet (if (gS q17.1 2 q4.2.2.toNatClampNeg) = q10.2.2 then (0 : Int32) else (1 : Int32)) fun q21 => gck (gIn q4.2.2 8) (gLet (gS1 q17.1 2 q4.2.2.toNatClampNeg q10.2.2) fun G25 => Option.bind (if q17.2 = 0 then some (G25, (0 : Int32)) else if q21 = 0 then some (G25, (0 : Int32)) else (f_X11_takesPicked G25).bind fun q34 => if q34.2 = 0 then some (q34.1, (0 : Int32)) else (f_X11_holds q34.1).bind fun q38 => if q38 = 0 then some (q34.1, (1 : Int32)) else some (q34.1, (0 : Int32))) fun q27 => gLet (q10.2.1 + q27.2) fun x30 => some (.inl (q27.1, x30, q10.2.2 + 1)))))
def f_X11_spoilt_b20  (q4 : gP × Int32 × Int32) : Option ((gP × Int32 × Int32) ⊕ (gP × Int32)) :=
  if (gS q4.1 1 0) ≤ q4.2.2 then some (.inr (q4.1, q4.2.1)) else (gloop (f_X11_spoilt_b32 q4) gFu (q4.1, q4.2.1, (0 : Int32))).bind fun q11 => some (.inl (q11.1, q11.2, q4.2.2 + 1))
def f_X11_spoilt (G : gP) : Option (gP × Int32) :=
  (f_X11_finds G).bind fun q1 => if (gS q1 0 10) = (-4 : Int32) then some (q1, (-4 : Int32)) else (gloop (f_X11_spoilt_b20) gFu (q1, (0 : Int32), (0 : Int32))).bind fun q5 => some (q5.1, q5.2)
def f_X11_count (G : gP) (a1 : Int32) : Option (gP × Int32) :=
  if a1 = 0 then some (G, gS G 1 0) else if a1 = 1 then some (G, gS G 1 1) else if a1 = 2 then some (G, gS G 1 2) else if a1 = 3 then (f_X11_finds G).bind fun q5 => some (q5, gS q5 0 8) else if a1 = 4 then (f_X11_finds G).bind fun q8 => some (q8, gS q8 0 9) else if a1 = 5 then (f_X11_counts G).bind fun q11 => some (q11, gS q11 0 15) else if a1 = 6 then (f_X11_counts G).bind fun q14 => (f_X11_look q14 (gS q14 0 15)).bind fun q16 => some (q14, q16) else if a1 = 7 then (f_X11_questions G).bind fun q19 => some (q19.1, q19.2) else if a1 = 8 then (f_X11_counts G).bind fun q22 => if (gS q22 0 14) = (9999 : Int32) then some (q22, (-4 : Int32)) else some (q22, gS q22 0 14) else if a1 = 9 then (f_X11_spoilt G).bind fun q26 => some (q26.1, q26.2) else if a1 = 10 then some (G, gS G 0 29) else some (G, (-1 : Int32))
def f_X11_type (G : gP) (a1 : Int32) : Option (gP × Int32) :=
  if (f_X11_in a1.toInt64 (32 : Int64) (126 : Int64)) = 0 then some (G, (-1 : Int32)) else if (gS G 0 23) = (120 : Int32) then some (G, (-3 : Int32)) else gck (gIn (gS G 0 23) 120) (gLet (gS1 G 11 (gS G 0 23).toNatClampNeg a1) fun G5 => gLet (gS1 G5 0 23 ((gS G5 0 23) + (1 : Int32))) fun G7 => some (G7, gS G7 0 23))
def f_X11_here_b0  (q1 : gP) : Option ((gP) ⊕ (gP)) :=
  if (gS q1 0 23) ≤ (gS q1 0 24) then some (.inr q1) else gck (gIn (gS q1 0 24) 120) (if (gS q1 11 (gS q1 0 24).toNatClampNeg) = (32 : Int32) then gLet (gS1 q1 0 24 ((gS q1 0 24) + (1 : Int32))) fun G9 => some (.inl G9) else some (.inr q1))
def f_X11_here (G : gP) : Option (gP × Int32) :=
  (gloop (f_X11_here_b0) gFu G).bind fun q2 => if (gS q2 0 23) ≤ (gS q2 0 24) then some (q2, (0 : Int32)) else gck (gIn (gS q2 0 24) 120) (some (q2, gS q2 11 (gS q2 0 24).toNatClampNeg))
def f_X11_letterWord (a0 : Int32) : Int32 :=
  if a0 = (104 : Int32) then (28 : Int32) else if a0 = (116 : Int32) then (29 : Int32) else if a0 = (97 : Int32) then (30 : Int32) else if a0 = (115 : Int32) then (31 : Int32) else if a0 = (110 : Int32) then (0 : Int32) else (-4 : Int32)
def f_X11_wordRead (G : gP) : Option (gP × Int32) :=
  (f_X11_here G).bind fun q1 => if (f_X11_in q1.2.toInt64 (48 : Int64) (57 : Int64)) = 0 then (f_X11_here q1.1).bind fun q36 => gLet (f_X11_letterWord q36.2) fun x38 => gLet (if x38 = (-4 : Int32) then (0 : Int32) else (1 : Int32)) fun q40 => gLet (gS1 q36.1 0 24 ((gS q36.1 0 24) + q40)) fun G43 => some (G43, x38) else gLet (gS q1.1 0 24) fun x5 => gck (gIn (gS q1.1 0 24) 120) (gLet ((gS q1.1 11 (gS q1.1 0 24).toNatClampNeg) - (48 : Int32)) fun x8 => gLet (gS1 q1.1 0 24 ((gS q1.1 0 24) + (1 : Int32))) fun G10 => Option.bind (if (gS G10 0 23) ≤ (gS G10 0 24) then some (G10, x8) else gck (gIn (gS G10 0 24) 120) (if (f_X11_in ((gS G10 11 (gS G10 0 24).toNatClampNeg).toInt64) (48 : Int64) (57 : Int64)) = 0 then some (G10, x8) else gck (gIn (gS G10 0 24) 120) (gLet ((((10 : Int32) * x8) + (gS G10 11 (gS G10 0 24).toNatClampNeg)) - (48 : Int32)) fun x32 => gLet (gS1 G10 0 24 ((gS G10 0 24) + (1 : Int32))) fun G34 => some (G34, x32)))) fun q12 => gLet (if (f_X11_in q12.2.toInt64 (1 : Int64) (19 : Int64)) = 0 then if q12.2 ≤ (19 : Int32) then (-4 : Int32) else if (gRem q12.2 (10 : Int32)) = 0 then (18 : Int32) + (q12.2 / (10 : Int32)) else (-4 : Int32) else q12.2) fun q16 => if q16 = (-4 : Int32) then gLet (gS1 q12.1 0 24 x5) fun G22 => some (G22, q16) else gLet (gS1 q12.1 0 24 (gS q12.1 0 24)) fun G20 => some (G20, q16))
def f_X11_has (G : gP) (a1 : Int32) : Option (gP × Int32) :=
  (f_X11_here G).bind fun q1 => if q1.2 = a1 then gLet (gS1 q1.1 0 24 ((gS q1.1 0 24) + (1 : Int32))) fun G4 => some (G4, (1 : Int32)) else some (q1.1, (0 : Int32))
def f_X11_reads_b62 (x1 : Int32) (q20 : gP × Int32) (q22 : Int32 × Int32) : Option ((Int32 × Int32) ⊕ (Int32)) :=
  gck (gIn x1 72) (if (gS q20.1 12 x1.toNatClampNeg) ≤ q22.2 then some (.inr q22.1) else if q22.1 = 0 then gck (gIn ((x1 + (1 : Int32)) + q22.2) 72) (if (gS q20.1 12 ((x1 + (1 : Int32)) + q22.2).toNatClampNeg) = q20.2 then some (.inl ((1 : Int32), q22.2 + 1)) else some (.inl ((0 : Int32), q22.2 + 1))) else some (.inl ((1 : Int32), q22.2 + 1)))
def f_X11_reads_b14 (x1 : Int32) (q6 : gP × Int32) : Option ((gP × Int32) ⊕ ((gP) ⊕ (gP × Int32))) :=
  if q6.2 = 0 then some (.inr (.inl q6.1)) else (f_X11_here q6.1).bind fun q12 => gLet (if q12.2 = 0 then (1 : Int32) else (0 : Int32)) fun q14 => gLet (if q14 = 0 then gS q12.1 0 24 else gS q12.1 0 23) fun q17 => (f_X11_wordRead q12.1).bind fun q20 => (gloop (f_X11_reads_b62 x1 q20) gFu ((0 : Int32), (0 : Int32))).bind fun q23 => if q20.2 = (-4 : Int32) then gLet (gS1 q20.1 0 24 q17) fun G33 => some (.inr (.inr (G33, (0 : Int32)))) else if q23 = 0 then gck (gIn x1 72) (gLet (gS q20.1 12 x1.toNatClampNeg) fun x37 => gck (gIn ((x1 + (1 : Int32)) + x37) 72) (gLet (gS1 q20.1 12 ((x1 + (1 : Int32)) + x37).toNatClampNeg q20.2) fun G40 => gck (gIn ((x1 + (5 : Int32)) + x37) 72) (gLet (gS1 G40 12 ((x1 + (5 : Int32)) + x37).toNatClampNeg (0 : Int32)) fun G43 => (f_X11_has G43 (58 : Int32)).bind fun q45 => if q45.2 = 0 then gck (gIn x1 72) (gck (gIn x1 72) (gLet (gS1 q45.1 12 x1.toNatClampNeg ((gS q45.1 12 x1.toNatClampNeg) + (1 : Int32))) fun G51 => gck (gIn x1 72) (if (4 : Int32) ≤ (gS G51 12 x1.toNatClampNeg) then some (.inl (G51, (0 : Int32))) else (f_X11_has G51 (44 : Int32)).bind fun q55 => if q55.2 = 0 then some (.inl (q55.1, (0 : Int32))) else some (.inl (q55.1, (1 : Int32)))))) else (f_X11_here q45.1).bind fun q59 => if (f_X11_in q59.2.toInt64 (48 : Int64) (57 : Int64)) = 0 then some (.inr (.inr (q59.1, (0 : Int32)))) else (f_X11_here q59.1).bind fun q63 => gck (gIn ((x1 + (5 : Int32)) + x37) 72) (gLet (gS1 q63.1 12 ((x1 + (5 : Int32)) + x37).toNatClampNeg (q63.2 - (48 : Int32))) fun G66 => gLet (gS1 G66 0 24 ((gS G66 0 24) + (1 : Int32))) fun G68 => gck (gIn x1 72) (gck (gIn x1 72) (gLet (gS1 G68 12 x1.toNatClampNeg ((gS G68 12 x1.toNatClampNeg) + (1 : Int32))) fun G72 => gck (gIn x1 72) (if (4 : Int32) ≤ (gS G72 12 x1.toNatClampNeg) then some (.inl (G72, (0 : Int32))) else (f_X11_has G72 (44 : Int32)).bind fun q76 => if q76.2 = 0 then some (.inl (q76.1, (0 : Int32))) else some (.inl (q76.1, (1 : Int32)))))))))) else gLet (gS1 q20.1 0 24 q17) fun G80 => some (.inr (.inr (G80, (0 : Int32))))
def f_X11_reads (G : gP) (a1 : Int32) : Option (gP × Int32) :=
  gLet ((9 : Int32) * a1) fun x1 => gck (gIn x1 72) (gLet (gS1 G 12 x1.toNatClampNeg (0 : Int32)) fun G4 => (gloop (f_X11_reads_b14 x1) gFu (G4, (1 : Int32))).bind fun q7 => gsum q7 (fun zq7 => some (zq7, (1 : Int32))) (fun r => some r))
def f_X11_fault (G : gP) : Option (gP × Int32) :=
  (f_X11_here G).bind fun q1 => gLet (if q1.2 = 0 then (1 : Int32) else (0 : Int32)) fun q3 => gLet (if q3 = 0 then gS q1.1 0 24 else gS q1.1 0 23) fun q6 => gLet ((-20 : Int32) - q6) fun x9 => gLet (gS1 q1.1 0 23 (0 : Int32)) fun G11 => some (G11, x9)
def f_X11_clears_b9  (q3 : gP × Int32) : Option ((gP × Int32) ⊕ (gP)) :=
  if (76 : Int32) ≤ q3.2 then some (.inr q3.1) else gck (gIn q3.2 76) (gLet (gS1 q3.1 1 q3.2.toNatClampNeg (0 : Int32)) fun G10 => some (.inl (G10, q3.2 + 1)))
def f_X11_clears (G : gP) : Option (gP) :=
  gLet (gS1 G 1 0 (0 : Int32)) fun G1 => (gloop (f_X11_clears_b9) gFu (G1, (4 : Int32))).bind fun q4 => some q4
def f_X11_words_b20  (q8 : gP × Int32 × Int32) : Option ((gP × Int32 × Int32) ⊕ ((gP × Int32) ⊕ (gP × Int32))) :=
  if q8.2.2 = 0 then some (.inr (.inl (q8.1, q8.2.1))) else (f_X11_reads q8.1 q8.2.1).bind fun q14 => if q14.2 = 0 then (f_X11_fault q14.1).bind fun q23 => some (.inr (.inr (q23.1, q23.2))) else if (8 : Int32) ≤ (q8.2.1 + 1) then some (.inl (q14.1, q8.2.1 + 1, (0 : Int32))) else (f_X11_has q14.1 (59 : Int32)).bind fun q19 => if q19.2 = 0 then some (.inl (q19.1, q8.2.1 + 1, (0 : Int32))) else some (.inl (q19.1, q8.2.1 + 1, (1 : Int32)))
def f_X11_words_b89 (zq9 : gP × Int32) (q32 : gP × Int32) : Option ((gP × Int32) ⊕ (gP)) :=
  if ((9 : Int32) * zq9.2) ≤ q32.2 then some (.inr q32.1) else gck (gIn q32.2 72) (gck (gIn ((4 : Int32) + q32.2) 76) (gLet (gS1 q32.1 1 ((4 : Int32) + q32.2).toNatClampNeg (gS q32.1 12 q32.2.toNatClampNeg)) fun G40 => some (.inl (G40, q32.2 + 1))))
def f_X11_words_b136 (q42 : gP × Int32) (q51 : gP × Int32) : Option ((gP × Int32) ⊕ (gP)) :=
  if (4 : Int32) ≤ q51.2 then some (.inr q51.1) else gck (gIn (((f_X11_at q42.2) + (1 : Int32)) + q51.2) 76) (gLet (gS1 q51.1 1 (((f_X11_at q42.2) + (1 : Int32)) + q51.2).toNatClampNeg (0 : Int32)) fun G58 => gck (gIn (((f_X11_at q42.2) + (5 : Int32)) + q51.2) 76) (gLet (gS1 G58 1 (((f_X11_at q42.2) + (5 : Int32)) + q51.2).toNatClampNeg (0 : Int32)) fun G61 => some (.inl (G61, q51.2 + 1))))
def f_X11_words_b119 (zq9 : gP × Int32) (q42 : gP × Int32) : Option ((gP × Int32) ⊕ (gP)) :=
  if zq9.2 ≤ q42.2 then some (.inr q42.1) else gck (gIn (f_X11_at q42.2) 76) (gLet (gS q42.1 1 (f_X11_at q42.2).toNatClampNeg) fun x49 => (gloop (f_X11_words_b136 q42) gFu (q42.1, x49)).bind fun q52 => some (.inl (q52, q42.2 + 1)))
def f_X11_words (G : gP) : Option (gP × Int32) :=
  gLet (gS1 G 0 24 (0 : Int32)) fun G1 => (f_X11_here G1).bind fun q3 => gLet (if q3.2 = 0 then (0 : Int32) else (1 : Int32)) fun q5 => (gloop (f_X11_words_b20) gFu (q3.1, (0 : Int32), q5)).bind fun q9 => gsum q9 (fun zq9 => (f_X11_here zq9.1).bind fun q25 => if q25.2 = 0 then (f_X11_clears q25.1).bind fun q28 => gLet (gS1 q28 1 0 zq9.2) fun G30 => (gloop (f_X11_words_b89 zq9) gFu (G30, (0 : Int32))).bind fun q33 => (gloop (f_X11_words_b119 zq9) gFu (q33, (0 : Int32))).bind fun q43 => gLet (gS1 q43 0 29 (0 : Int32)) fun G63 => gLet (gS1 G63 0 23 (0 : Int32)) fun G65 => some (G65, zq9.2) else (f_X11_fault q25.1).bind fun q67 => some (q67.1, q67.2)) (fun r => some r)
def f_X11_says (G : gP) (a1 : Int32) : Option (gP) :=
  gck (gIn (gS G 0 27) 10) (gLet (gS1 G 13 (gS G 0 27).toNatClampNeg a1) fun G2 => gLet (gS1 G2 0 27 ((gS G2 0 27) + (1 : Int32))) fun G4 => some G4)
def f_X11_saysSmall (G : gP) (a1 : Int32) : Option (gP) :=
  Option.bind (if a1 < (100 : Int32) then some G else (f_X11_says G (a1 / (100 : Int32))).bind fun q20 => (f_X11_says q20 (28 : Int32)).bind fun q22 => some q22) fun q1 => gLet (gRem a1 (100 : Int32)) fun x4 => Option.bind (if x4 ≤ (19 : Int32) then some q1 else (f_X11_says q1 ((18 : Int32) + (x4 / (10 : Int32)))).bind fun q17 => some q17) fun q6 => gLet (if x4 ≤ (19 : Int32) then x4 else gRem x4 (10 : Int32)) fun q9 => if q9 ≤ 0 then some q6 else (f_X11_says q6 q9).bind fun q13 => some q13
def f_X11_hears (G : gP) (a1 : Int32) (a2 : Int32) : Option (gP) :=
  gLet (gS G 1 0) fun x1 => gLet (gS1 G 1 0 ((gS G 1 0) + (1 : Int32))) fun G3 => gck (gIn (f_X11_at x1) 76) (gLet (gS1 G3 1 (f_X11_at x1).toNatClampNeg (1 : Int32)) fun G6 => gck (gIn ((f_X11_at x1) + (1 : Int32)) 76) (gLet (gS1 G6 1 ((f_X11_at x1) + (1 : Int32)).toNatClampNeg a1) fun G9 => gck (gIn ((f_X11_at x1) + (5 : Int32)) 76) (gLet (gS1 G9 1 ((f_X11_at x1) + (5 : Int32)).toNatClampNeg a2) fun G12 => some G12)))
def f_X11_say_b68  (q13 : gP × Int32) : Option ((gP × Int32) ⊕ (gP)) :=
  if (gS q13.1 0 27) ≤ q13.2 then some (.inr q13.1) else gck (gIn q13.2 10) ((f_X11_hears q13.1 (gS q13.1 13 q13.2.toNatClampNeg) (0 : Int32)).bind fun q20 => some (.inl (q20, q13.2 + 1)))
def f_X11_say (G : gP) (a1 : Int32) : Option (gP × Int32) :=
  if (f_X11_in a1.toInt64 (1 : Int64) (999999 : Int64)) = 0 then some (G, (-1 : Int32)) else gLet (gS1 G 0 27 (0 : Int32)) fun G3 => Option.bind (if a1 < (1000 : Int32) then some G3 else (f_X11_saysSmall G3 (a1 / (1000 : Int32))).bind fun q25 => (f_X11_says q25 (29 : Int32)).bind fun q27 => some q27) fun q5 => (f_X11_saysSmall q5 (gRem a1 (1000 : Int32))).bind fun q8 => if (gS q8 0 27) ≤ (8 : Int32) then (f_X11_clears q8).bind fun q11 => (gloop (f_X11_say_b68) gFu (q11, (0 : Int32))).bind fun q14 => gLet (gS1 q14 0 29 (0 : Int32)) fun G22 => some (G22, gS G22 0 27) else some (q8, (-3 : Int32))
def f_X11_isWord (a0 : Int32) : Int32 :=
  f_X11_in a0.toInt64 (0 : Int64) (31 : Int64)
def f_X11_notes_b48  (q4 : gP × Int32) : Option ((gP × Int32) ⊕ (gP)) :=
  if (76 : Int32) ≤ q4.2 then some (.inr q4.1) else gck (gIn q4.2 76) (gck (gIn (((76 : Int32) * (gS q4.1 0 29)) + q4.2) 608) (gLet (gS1 q4.1 14 (((76 : Int32) * (gS q4.1 0 29)) + q4.2).toNatClampNeg (gS q4.1 1 q4.2.toNatClampNeg)) fun G12 => some (.inl (G12, q4.2 + 1))))
def f_X11_notes_b12  (q17 : gP × Int32) : Option ((gP × Int32) ⊕ (gP)) :=
  if (608 : Int32) ≤ q17.2 then some (.inr q17.1) else gck (gIn q17.2 608) (gck (gIn (q17.2 - (76 : Int32)) 608) (gLet (gS1 q17.1 14 (q17.2 - (76 : Int32)).toNatClampNeg (gS q17.1 14 q17.2.toNatClampNeg)) fun G25 => some (.inl (G25, q17.2 + 1))))
def f_X11_notes (G : gP) : Option (gP) :=
  Option.bind (if (gS G 0 29) = (8 : Int32) then (gloop (f_X11_notes_b12) gFu (G, (76 : Int32))).bind fun q18 => gLet (gS1 q18 0 29 (7 : Int32)) fun G27 => some G27 else some G) fun q1 => (gloop (f_X11_notes_b48) gFu (q1, (0 : Int32))).bind fun q5 => gLet (gS1 q5 0 29 ((gS q5 0 29) + (1 : Int32))) fun G14 => some G14
def f_X11_hear (G : gP) (a1 : Int32) (a2 : Int32) : Option (gP × Int32) :=
  if (f_X11_isWord a1) = 0 then some (G, (-1 : Int32)) else if (f_X11_in a2.toInt64 (0 : Int64) (9 : Int64)) = 0 then some (G, (-1 : Int32)) else if (gS G 1 0) = (8 : Int32) then some (G, (-3 : Int32)) else (f_X11_notes G).bind fun q6 => (f_X11_hears q6 a1 a2).bind fun q8 => some (q8, gS q8 1 0)
def f_X11_placeOf_b6 (a1 : Int32) (G : gP) (a2 : Int32) (q1 : Int32 × Int32) : Option ((Int32 × Int32) ⊕ (Int32)) :=
  gck (gIn (f_X11_at a1) 76) (if (gS G 1 (f_X11_at a1).toNatClampNeg) ≤ q1.2 then some (.inr q1.1) else gck (gIn (((f_X11_at a1) + (1 : Int32)) + q1.2) 76) (if (gS G 1 (((f_X11_at a1) + (1 : Int32)) + q1.2).toNatClampNeg) = a2 then some (.inl (q1.2, q1.2 + 1)) else some (.inl (q1.1, q1.2 + 1))))
def f_X11_placeOf (G : gP) (a1 : Int32) (a2 : Int32) : Option (Int32) :=
  (gloop (f_X11_placeOf_b6 a1 G a2) gFu ((-4 : Int32), (0 : Int32))).bind fun q2 => some q2
def f_X11_comes (G : gP) (a1 : Int32) (a2 : Int32) (a3 : Int32) : Option (gP) :=
  gck (gIn (f_X11_at a1) 76) (gLet (gS G 1 (f_X11_at a1).toNatClampNeg) fun x2 => gck (gIn (((f_X11_at a1) + (1 : Int32)) + x2) 76) (gLet (gS1 G 1 (((f_X11_at a1) + (1 : Int32)) + x2).toNatClampNeg a2) fun G5 => gck (gIn (((f_X11_at a1) + (5 : Int32)) + x2) 76) (gLet (gS1 G5 1 (((f_X11_at a1) + (5 : Int32)) + x2).toNatClampNeg a3) fun G8 => gck (gIn (f_X11_at a1) 76) (gck (gIn (f_X11_at a1) 76) (gLet (gS1 G8 1 (f_X11_at a1).toNatClampNeg ((gS G8 1 (f_X11_at a1).toNatClampNeg) + (1 : Int32))) fun G12 => some G12)))))
def f_X11_also (G : gP) (a1 : Int32) (a2 : Int32) (a3 : Int32) : Option (gP × Int32) :=
  if (f_X11_isSlot G a1) = 0 then some (G, (-1 : Int32)) else if (f_X11_isWord a2) = 0 then some (G, (-1 : Int32)) else if (f_X11_in a3.toInt64 (0 : Int64) (9 : Int64)) = 0 then some (G, (-1 : Int32)) else (f_X11_placeOf G a1 a2).bind fun q7 => if q7 = (-4 : Int32) then gck (gIn (f_X11_at a1) 76) (if (gS G 1 (f_X11_at a1).toNatClampNeg) = (4 : Int32) then some (G, (-3 : Int32)) else (f_X11_notes G).bind fun q12 => (f_X11_comes q12 a1 a2 a3).bind fun q14 => gck (gIn (f_X11_at a1) 76) (some (q14, gS q14 1 (f_X11_at a1).toNatClampNeg))) else some (G, (-2 : Int32))
def f_X11_lose_b30  (q9 : gP × Int32) : Option ((gP × Int32) ⊕ (gP)) :=
  if (f_X11_at (gS q9.1 1 0)) ≤ q9.2 then some (.inr q9.1) else gck (gIn (q9.2 + (9 : Int32)) 76) (gck (gIn q9.2 76) (gLet (gS1 q9.1 1 q9.2.toNatClampNeg (gS q9.1 1 (q9.2 + (9 : Int32)).toNatClampNeg)) fun G17 => some (.inl (G17, q9.2 + 1))))
def f_X11_lose_b67  (q19 : gP × Int32) : Option ((gP × Int32) ⊕ (gP)) :=
  if (9 : Int32) ≤ q19.2 then some (.inr q19.1) else gck (gIn ((f_X11_at (gS q19.1 1 0)) + q19.2) 76) (gLet (gS1 q19.1 1 ((f_X11_at (gS q19.1 1 0)) + q19.2).toNatClampNeg (0 : Int32)) fun G26 => some (.inl (G26, q19.2 + 1)))
def f_X11_lose (G : gP) (a1 : Int32) : Option (gP × Int32) :=
  if (f_X11_isSlot G a1) = 0 then some (G, (-1 : Int32)) else (f_X11_notes G).bind fun q3 => gLet (gS1 q3 1 0 ((gS q3 1 0) - (1 : Int32))) fun G5 => gLet (f_X11_at a1) fun x7 => (gloop (f_X11_lose_b30) gFu (G5, x7)).bind fun q10 => (gloop (f_X11_lose_b67) gFu (q10, (0 : Int32))).bind fun q20 => some (q20, gS q20 1 0)
def f_X11_settle_b74 (a1 : Int32) (q17 : gP × Int32) : Option ((gP × Int32) ⊕ (gP)) :=
  if (9 : Int32) ≤ q17.2 then some (.inr q17.1) else gck (gIn ((f_X11_at a1) + q17.2) 76) (gLet (gS1 q17.1 1 ((f_X11_at a1) + q17.2).toNatClampNeg (0 : Int32)) fun G24 => some (.inl (G24, q17.2 + 1)))
def f_X11_settle (G : gP) (a1 : Int32) (a2 : Int32) : Option (gP × Int32) :=
  if (f_X11_isSlot G a1) = 0 then some (G, (-1 : Int32)) else if (f_X11_isWord a2) = 0 then some (G, (-1 : Int32)) else (f_X11_placeOf G a1 a2).bind fun q5 => gck (gIn (f_X11_at a1) 76) (gLet (gS G 1 (f_X11_at a1).toNatClampNeg) fun x8 => if q5 = (-4 : Int32) then some (G, (-2 : Int32)) else if x8 = (1 : Int32) then some (G, (-2 : Int32)) else (f_X11_notes G).bind fun q12 => gck (gIn (((f_X11_at a1) + (5 : Int32)) + q5) 76) (gLet (gS q12 1 (((f_X11_at a1) + (5 : Int32)) + q5).toNatClampNeg) fun x15 => (gloop (f_X11_settle_b74 a1) gFu (q12, (0 : Int32))).bind fun q18 => (f_X11_comes q18 a1 a2 x15).bind fun q26 => some (q26, x8 - (1 : Int32))))
def f_X11_check (G : gP) (a1 : Int32) : Option (gP × Int32) :=
  if (f_X11_in a1.toInt64 (0 : Int64) (4 : Int64)) = 0 then some (G, (-1 : Int32)) else gLet (gS G 1 1) fun x3 => if x3 = a1 then some (G, (-2 : Int32)) else (f_X11_notes G).bind fun q6 => gLet (gS1 q6 1 1 a1) fun G8 => some (G8, x3)
def f_X11_slack (G : gP) (a1 : Int32) : Option (gP × Int32) :=
  if (f_X11_in a1.toInt64 (0 : Int64) (20 : Int64)) = 0 then some (G, (-1 : Int32)) else gLet (gS G 1 2) fun x3 => if x3 = a1 then some (G, (-2 : Int32)) else (f_X11_notes G).bind fun q6 => gLet (gS1 q6 1 2 a1) fun G8 => some (G8, x3)
def f_X11_storm_b16 (a1 : Int32) (q3 : gP × Int32) : Option ((gP × Int32) ⊕ (gP)) :=
  if a1 ≤ q3.2 then some (.inr q3.1) else (f_X11_notes q3.1).bind fun q9 => gLet (gRemL ((((gS q9 1 3).toInt64) * (1103515245 : Int64)) + (12345 : Int64)) (2147483648 : Int64)) fun x11 => gLet (gS1 q9 1 3 x11.toInt32) fun G13 => gLet ((gS G13 1 3) / (65536 : Int32)) fun x15 => if (gS G13 1 0) ≤ 0 then some (.inl (G13, q3.2 + 1)) else gck (gNz (gS G13 1 0)) (gLet (gRem x15 (gS G13 1 0)) fun x19 => gck (gIn (f_X11_at x19) 76) (if (4 : Int32) ≤ (gS G13 1 (f_X11_at x19).toNatClampNeg) then some (.inl (G13, q3.2 + 1)) else (f_X11_placeOf G13 x19 (gRem (x15 / (8 : Int32)) (32 : Int32))).bind fun q23 => if q23 = (-4 : Int32) then (f_X11_comes G13 x19 (gRem (x15 / (8 : Int32)) (32 : Int32)) (gRem (x15 / (256 : Int32)) (10 : Int32))).bind fun q26 => some (.inl (q26, q3.2 + 1)) else some (.inl (G13, q3.2 + 1))))
def f_X11_storm_b152 (q4 : gP) (q28 : Int32 × Int32) : Option ((Int32 × Int32) ⊕ (Int32)) :=
  if (gS q4 1 0) ≤ q28.2 then some (.inr q28.1) else gck (gIn (f_X11_at q28.2) 76) (gLet (q28.1 + (gS q4 1 (f_X11_at q28.2).toNatClampNeg)) fun x35 => some (.inl (x35, q28.2 + 1)))
def f_X11_storm (G : gP) (a1 : Int32) : Option (gP × Int32) :=
  if (f_X11_in a1.toInt64 (1 : Int64) (40 : Int64)) = 0 then some (G, (-1 : Int32)) else (gloop (f_X11_storm_b16 a1) gFu (G, (0 : Int32))).bind fun q4 => (gloop (f_X11_storm_b152 q4) gFu ((0 : Int32), (0 : Int32))).bind fun q29 => some (q4, q29)
def f_X11_undo_b22  (q4 : gP × Int32) : Option ((gP × Int32) ⊕ (gP)) :=
  if (76 : Int32) ≤ q4.2 then some (.inr q4.1) else gck (gIn (((76 : Int32) * (gS q4.1 0 29)) + q4.2) 608) (gck (gIn q4.2 76) (gLet (gS1 q4.1 1 q4.2.toNatClampNeg (gS q4.1 14 (((76 : Int32) * (gS q4.1 0 29)) + q4.2).toNatClampNeg)) fun G12 => some (.inl (G12, q4.2 + 1))))
def f_X11_undo (G : gP) : Option (gP × Int32) :=
  if (gS G 0 29) = 0 then some (G, (-4 : Int32)) else gLet (gS1 G 0 29 ((gS G 0 29) - (1 : Int32))) fun G2 => (gloop (f_X11_undo_b22) gFu (G2, (0 : Int32))).bind fun q5 => some (q5, gS q5 0 29)
def f_X11_seed (G : gP) (a1 : Int32) : Option (gP × Int32) :=
  if 0 ≤ a1 then gLet (gS G 1 3) fun x2 => gLet (gS1 G 1 3 a1) fun G4 => some (G4, x2) else some (G, (-1 : Int32))
def f_X11_best (G : gP) (a1 : Int32) : Option (gP × Int32) :=
  if (-2 : Int32) ≤ a1 then (f_X11_finds G).bind fun q2 => if (gS q2 0 10) = (-4 : Int32) then some (q2, (-4 : Int32)) else if a1 = (-1 : Int32) then some (q2, gS q2 0 11) else if a1 = (-2 : Int32) then some (q2, gS q2 0 13) else if (gS q2 0 13) ≤ a1 then some (q2, (-4 : Int32)) else gck (gIn a1 8) (some (q2, gS q2 5 a1.toNatClampNeg)) else some (G, (-1 : Int32))
def f_X11_taken (G : gP) (a1 : Int32) : Option (gP × Int32) :=
  if (f_X11_isSlot G a1) = 0 then some (G, (-1 : Int32)) else (f_X11_finds G).bind fun q3 => if (gS q3 0 10) = (-4 : Int32) then some (q3, (-4 : Int32)) else (f_X11_takes q3 (gS q3 0 10)).bind fun q6 => if q6.2 = 0 then some (q6.1, (-4 : Int32)) else gck (gIn a1 8) (gck (gIn (((f_X11_at a1) + (1 : Int32)) + (gS q6.1 2 a1.toNatClampNeg)) 76) (some (q6.1, gS q6.1 1 (((f_X11_at a1) + (1 : Int32)) + (gS q6.1 2 a1.toNatClampNeg)).toNatClampNeg)))
def f_X11_open_b21 (a1 : Int32) (q3 : gP) (q5 : Int64 × Int32) : Option ((Int64 × Int32) ⊕ (Int64)) :=
  if (32 : Int32) ≤ q5.2 then some (.inr q5.1) else gck (gIn (((32 : Int32) * a1) + q5.2) 256) (gLet (if (gS q3 6 (((32 : Int32) * a1) + q5.2).toNatClampNeg) ≤ 0 then (0 : Int64) else gShlL (1 : Int64) q5.2) fun q12 => gLet (q5.1 ||| q12) fun x15 => some (.inl (x15, q5.2 + 1)))
def f_X11_open (G : gP) (a1 : Int32) : Option (gP × Int64) :=
  if (f_X11_isSlot G a1) = 0 then some (G, (-1 : Int64)) else (f_X11_counts G).bind fun q3 => (gloop (f_X11_open_b21 a1 q3) gFu ((0 : Int64), (0 : Int32))).bind fun q6 => some (q3, q6)
def f_X11_isCounted (G : gP) (a1 : Int32) : Option (gP × Int32) :=
  (f_X11_takes G a1).bind fun q1 => if q1.2 = 0 then some (q1.1, (0 : Int32)) else (f_X11_holds q1.1).bind fun q5 => if q5 = 0 then some (q1.1, (0 : Int32)) else if ((gS q1.1 0 11) + (gS q1.1 1 2)) < (gS q1.1 0 4) then some (q1.1, (0 : Int32)) else some (q1.1, (1 : Int32))
def f_X11_counted_b44 (q6 : Int32) (a1 : Int32) (a2 : Int32) (q9 : gP × Int32 × Int32) : Option ((gP × Int32 × Int32) ⊕ ((gP) ⊕ (gP × Int32))) :=
  if q6 ≤ q9.2.2 then some (.inr (.inl q9.1)) else (f_X11_isCounted q9.1 q9.2.2).bind fun q15 => if q15.2 = 0 then some (.inl (q15.1, q9.2.1, q9.2.2 + 1)) else if q9.2.1 = a1 then if a2 = 0 then some (.inr (.inr (q15.1, gS q15.1 0 4))) else gck (gIn ((gS q15.1 0 6) - (1 : Int32)) 8) (some (.inr (.inr (q15.1, gS q15.1 4 ((gS q15.1 0 6) - (1 : Int32)).toNatClampNeg)))) else some (.inl (q15.1, q9.2.1 + 1, q9.2.2 + 1))
def f_X11_counted (G : gP) (a1 : Int32) (a2 : Int32) : Option (gP × Int32) :=
  if a1 < 0 then some (G, (-1 : Int32)) else if (f_X11_in a2.toInt64 (0 : Int64) (1 : Int64)) = 0 then some (G, (-1 : Int32)) else (f_X11_finds G).bind fun q4 => Option.bind (if (gS q4 0 10) = (-4 : Int32) then some (0 : Int32) else (f_X11_readings q4).bind fun q23 => some q23) fun q6 => (gloop (f_X11_counted_b44 q6 a1 a2) gFu (q4, (0 : Int32), (0 : Int32))).bind fun q10 => gsum q10 (fun zq10 => some (zq10, (-4 : Int32))) (fun r => some r)
def f_X11_likely_b69 (q13 : gP × Int32) (q21 : Int64 × Int32) : Option ((Int64 × Int32) ⊕ (Int64)) :=
  if (gS q13.1 1 0) ≤ q21.2 then some (.inr q21.1) else gck (gIn q21.2 8) (gck (gIn (((f_X11_at q21.2) + (5 : Int32)) + (gS q13.1 2 q21.2.toNatClampNeg)) 76) (gLet (q21.1 * (((10 : Int32) - (gS q13.1 1 (((f_X11_at q21.2) + (5 : Int32)) + (gS q13.1 2 q21.2.toNatClampNeg)).toNatClampNeg)).toInt64)) fun x29 => some (.inl (x29, q21.2 + 1))))
def f_X11_likely_b40 (q5 : Int32) (a1 : Int32) (q7 : gP × Int64 × Int64 × Int32) : Option ((gP × Int64 × Int64 × Int32) ⊕ (gP × Int64 × Int64)) :=
  if q5 ≤ q7.2.2.2 then some (.inr (q7.1, q7.2.1, q7.2.2.1)) else (f_X11_takes q7.1 q7.2.2.2).bind fun q13 => if q13.2 = 0 then some (.inl (q13.1, q7.2.1, q7.2.2.1, q7.2.2.2 + 1)) else (f_X11_holds q13.1).bind fun q17 => if q17 = 0 then some (.inl (q13.1, q7.2.1, q7.2.2.1, q7.2.2.2 + 1)) else (gloop (f_X11_likely_b69 q13) gFu ((1 : Int64), (0 : Int32))).bind fun q22 => gLet (q7.2.2.1 + q22) fun x31 => gck (gIn ((gS q13.1 0 6) - (1 : Int32)) 8) (gLet (if (gS q13.1 4 ((gS q13.1 0 6) - (1 : Int32)).toNatClampNeg) = a1 then q22 else (0 : Int64)) fun q34 => gLet (q7.2.1 + q34) fun x37 => some (.inl (q13.1, x37, x31, q7.2.2.2 + 1)))
def f_X11_likely_b171  (q41 : Int64 × Int64) : Option ((Int64 × Int64) ⊕ (Int64)) :=
  if q41.2 = (0 : Int64) then some (.inr q41.1) else gck (gNzL q41.2) (gLet (gRemL q41.1 q41.2) fun x48 => some (.inl (q41.2, x48)))
def f_X11_likely (G : gP) (a1 : Int32) (a2 : Int32) : Option (gP × Int64) :=
  if (f_X11_in a1.toInt64 (0 : Int64) (999999 : Int64)) = 0 then some (G, (-1 : Int64)) else if (f_X11_in a2.toInt64 (0 : Int64) (1 : Int64)) = 0 then some (G, (-1 : Int64)) else (f_X11_readings G).bind fun q5 => (gloop (f_X11_likely_b40 q5 a1) gFu (G, (0 : Int64), (0 : Int64), (0 : Int32))).bind fun q8 => if q8.2.2 = (0 : Int64) then some (q8.1, (-4 : Int64)) else (gloop (f_X11_likely_b171) gFu (q8.2.1, q8.2.2)).bind fun q42 => if a2 = 0 then gck (gNzL q42) (some (q8.1, q8.2.1 / q42)) else gck (gNzL q42) (some (q8.1, q8.2.2 / q42))
def f_X11_image_b2  (q1 : gP × Int32) : Option ((gP × Int32) ⊕ (gP)) :=
  if (76 : Int32) ≤ q1.2 then some (.inr q1.1) else gck (gIn q1.2 76) (gck (gIn q1.2 76) (gLet (gS1 q1.1 15 q1.2.toNatClampNeg (gS q1.1 1 q1.2.toNatClampNeg)) fun G9 => some (.inl (G9, q1.2 + 1))))
def f_X11_image_b28  (q11 : gP × Int32) : Option ((gP × Int32) ⊕ (gP)) :=
  if (608 : Int32) ≤ q11.2 then some (.inr q11.1) else gck (gIn q11.2 608) (gck (gIn q11.2 608) (gLet (gS1 q11.1 16 q11.2.toNatClampNeg (gS q11.1 14 q11.2.toNatClampNeg)) fun G19 => some (.inl (G19, q11.2 + 1))))
def f_X11_image (G : gP) : Option (gP × Int32) :=
  (gloop (f_X11_image_b2) gFu (G, (0 : Int32))).bind fun q2 => (gloop (f_X11_image_b28) gFu (q2, (0 : Int32))).bind fun q12 => gLet (gS1 q12 0 32 (gS q12 0 29)) fun G21 => some (G21, (1 : Int32))
def f_X11_restore_b12  (q2 : gP × Int32) : Option ((gP × Int32) ⊕ (gP)) :=
  if (76 : Int32) ≤ q2.2 then some (.inr q2.1) else gck (gIn q2.2 76) (gck (gIn q2.2 76) (gLet (gS1 q2.1 1 q2.2.toNatClampNeg (gS q2.1 15 q2.2.toNatClampNeg)) fun G10 => some (.inl (G10, q2.2 + 1))))
def f_X11_restore_b38  (q12 : gP × Int32) : Option ((gP × Int32) ⊕ (gP)) :=
  if (608 : Int32) ≤ q12.2 then some (.inr q12.1) else gck (gIn q12.2 608) (gck (gIn q12.2 608) (gLet (gS1 q12.1 14 q12.2.toNatClampNeg (gS q12.1 16 q12.2.toNatClampNeg)) fun G20 => some (.inl (G20, q12.2 + 1))))
def f_X11_restore (G : gP) : Option (gP × Int32) :=
  if 0 ≤ (gS G 0 32) then (gloop (f_X11_restore_b12) gFu (G, (0 : Int32))).bind fun q3 => (gloop (f_X11_restore_b38) gFu (q3, (0 : Int32))).bind fun q13 => gLet (gS1 q13 0 29 (gS q13 0 32)) fun G22 => some (G22, (1 : Int32)) else some (G, (-4 : Int32))
def f_X11_isSheet (a0 : Int32) : Int32 :=
  f_X11_in a0.toInt64 (0 : Int64) (3 : Int64)
def f_X11_sheet_b51 (a1 : Int32) (q13 : gP × Int32) : Option ((gP × Int32) ⊕ (gP)) :=
  if (24 : Int32) ≤ q13.2 then some (.inr q13.1) else gck (gIn (((24 : Int32) * a1) + q13.2) 96) (gLet (gL1 q13.1 19 (((24 : Int32) * a1) + q13.2).toNatClampNeg (0 : Int64)) fun G20 => some (.inl (G20, q13.2 + 1)))
def f_X11_sheet (G : gP) (a1 : Int32) (a2 : Int32) (a3 : Int32) : Option (gP × Int32) :=
  if (f_X11_isSheet a1) = 0 then some (G, (-1 : Int32)) else if (f_X11_in a2.toInt64 (0 : Int64) (3 : Int64)) = 0 then some (G, (-1 : Int32)) else if a3 ≤ (24 : Int32) then if 0 ≤ a3 then gck (gIn a1 4) (gLet (gS1 G 17 a1.toNatClampNeg a2) fun G8 => gck (gIn a1 4) (gLet (gS1 G8 18 a1.toNatClampNeg a3) fun G11 => (gloop (f_X11_sheet_b51 a1) gFu (G11, (0 : Int32))).bind fun q14 => some (q14, a3))) else some (G, (-14 : Int32)) else some (G, (-1 : Int32))
def f_X11_drop (G : gP) (a1 : Int32) : Option (gP × Int32) :=
  if (f_X11_isSheet a1) = 0 then some (G, (-1 : Int32)) else gck (gIn a1 4) (if 0 ≤ (gS G 17 a1.toNatClampNeg) then gck (gIn a1 4) (gLet (gS1 G 17 a1.toNatClampNeg (-1 : Int32)) fun G6 => gck (gIn a1 4) (some (G6, gS G6 18 a1.toNatClampNeg))) else some (G, (-11 : Int32)))
def f_X11_why (G : gP) (a1 : Int32) (a2 : Int32) (a3 : Int32) (a4 : Int32) : Option (Int32) :=
  gck (gIn a1 4) (if 0 ≤ (gS G 17 a1.toNatClampNeg) then gck (gIn a1 4) (if (gS G 17 a1.toNatClampNeg) = a2 then if a3 < 0 then some (-13 : Int32) else gck (gIn a1 4) (if a4 ≤ ((gS G 18 a1.toNatClampNeg) - a3) then some (0 : Int32) else some (-13 : Int32)) else some (-12 : Int32)) else some (-11 : Int32))
def f_X11_cut (a0 : Int64) (a2 : Int32) : Int64 :=
  if a2 = 0 then a0.toInt32.toInt8.toInt32.toInt64 else if a2 = (1 : Int32) then a0.toInt32.toInt16.toInt32.toInt64 else if a2 = (2 : Int32) then a0.toInt32.toInt64 else a0
def f_X11_item (G : gP) (a1 : Int32) (a2 : Int32) (a3 : Int32) (a4 : Int64) : Option (gP × Int32) :=
  if (f_X11_isSheet a1) = 0 then some (G, (-1 : Int32)) else if (f_X11_in a2.toInt64 (0 : Int64) (3 : Int64)) = 0 then some (G, (-1 : Int32)) else (f_X11_why G a1 a2 a3 (1 : Int32)).bind fun q5 => if 0 ≤ q5 then gck (gIn (((24 : Int32) * a1) + a3) 96) (gLet (gL1 G 19 (((24 : Int32) * a1) + a3).toNatClampNeg (f_X11_cut a4 a2)) fun G9 => some (G9, (1 : Int32))) else some (G, q5)
def f_X11_copy_b110 (a5 : Int32) (a1 : Int32) (a2 : Int32) (q19 : gP × Int32) : Option ((gP × Int32) ⊕ (gP)) :=
  if a5 ≤ q19.2 then some (.inr q19.1) else gck (gIn ((((24 : Int32) * a1) + a2) + q19.2) 96) (gck (gIn q19.2 24) (gLet (gL1 q19.1 20 q19.2.toNatClampNeg (gL q19.1 19 ((((24 : Int32) * a1) + a2) + q19.2).toNatClampNeg)) fun G27 => some (.inl (G27, q19.2 + 1))))
def f_X11_copy_b147 (a5 : Int32) (a3 : Int32) (a4 : Int32) (q29 : gP × Int32) : Option ((gP × Int32) ⊕ (gP)) :=
  if a5 ≤ q29.2 then some (.inr q29.1) else gck (gIn q29.2 24) (gck (gIn ((((24 : Int32) * a3) + a4) + q29.2) 96) (gLet (gL1 q29.1 19 ((((24 : Int32) * a3) + a4) + q29.2).toNatClampNeg (gL q29.1 20 q29.2.toNatClampNeg)) fun G37 => some (.inl (G37, q29.2 + 1))))
def f_X11_copy (G : gP) (a1 : Int32) (a2 : Int32) (a3 : Int32) (a4 : Int32) (a5 : Int32) : Option (gP × Int32) :=
  if (f_X11_isSheet a1) = 0 then some (G, (-1 : Int32)) else if (f_X11_isSheet a3) = 0 then some (G, (-1 : Int32)) else gck (gIn a1 4) (if (gS G 17 a1.toNatClampNeg) < 0 then some (G, (-11 : Int32)) else gck (gIn a3 4) (if 0 ≤ (gS G 17 a3.toNatClampNeg) then gck (gIn a1 4) (gck (gIn a3 4) (if (gS G 17 a1.toNatClampNeg) = (gS G 17 a3.toNatClampNeg) then if a5 < 0 then some (G, (-13 : Int32)) else if a2 < 0 then some (G, (-13 : Int32)) else if a4 < 0 then some (G, (-13 : Int32)) else gck (gIn a1 4) (if ((gS G 18 a1.toNatClampNeg).toInt64) < (a2.toInt64 + a5.toInt64) then some (G, (-13 : Int32)) else gck (gIn a3 4) (if (a4.toInt64 + a5.toInt64) ≤ ((gS G 18 a3.toNatClampNeg).toInt64) then (gloop (f_X11_copy_b110 a5 a1 a2) gFu (G, (0 : Int32))).bind fun q20 => (gloop (f_X11_copy_b147 a5 a3 a4) gFu (q20, (0 : Int32))).bind fun q30 => some (q30, a5) else some (G, (-13 : Int32)))) else some (G, (-12 : Int32)))) else some (G, (-11 : Int32))))
def f_X11_meant_b104 (a4 : Int32) (a1 : Int32) (a3 : Int32) (q20 : gP) (q25 : Int32 × Int32) : Option ((Int32 × Int32) ⊕ (Int32)) :=
  if a4 ≤ q25.2 then some (.inr q25.1) else if q25.1 = 0 then some (.inr q25.1) else gck (gIn q25.2 8) (gck (gIn ((((24 : Int32) * a1) + a3) + q25.2) 96) (if ((gS q20 5 q25.2.toNatClampNeg).toInt64) = (gL q20 19 ((((24 : Int32) * a1) + a3) + q25.2).toNatClampNeg) then some (.inl ((1 : Int32), q25.2 + 1)) else some (.inl ((0 : Int32), q25.2 + 1))))
def f_X11_meant_b67 (a4 : Int32) (a1 : Int32) (a3 : Int32) (q12 : gP × Int32 × Int32) : Option ((gP × Int32 × Int32) ⊕ (gP × Int32)) :=
  if (5 : Int32) ≤ q12.2.2 then some (.inr (q12.1, q12.2.1)) else gLet (gS1 q12.1 1 1 q12.2.2) fun G18 => (f_X11_finds G18).bind fun q20 => gLet (if (gS q20 0 13) = a4 then (1 : Int32) else (0 : Int32)) fun q22 => (gloop (f_X11_meant_b104 a4 a1 a3 q20) gFu (q22, (0 : Int32))).bind fun q26 => gLet (if q26 = 0 then (0 : Int32) else gShl (1 : Int32) q12.2.2) fun q35 => gLet (q12.2.1 ||| q35) fun x38 => some (.inl (q20, x38, q12.2.2 + 1))
def f_X11_meant (G : gP) (a1 : Int32) (a2 : Int32) (a3 : Int32) (a4 : Int32) : Option (gP × Int32) :=
  if (f_X11_isSheet a1) = 0 then some (G, (-1 : Int32)) else if (f_X11_in a2.toInt64 (0 : Int64) (3 : Int64)) = 0 then some (G, (-1 : Int32)) else if (f_X11_in a4.toInt64 (1 : Int64) (6 : Int64)) = 0 then some (G, (-1 : Int32)) else (f_X11_why G a1 a2 a3 a4).bind fun q7 => if 0 ≤ q7 then gLet (gS G 1 1) fun x10 => (gloop (f_X11_meant_b67 a4 a1 a3) gFu (G, (0 : Int32), (0 : Int32))).bind fun q13 => gLet (gS1 q13.1 1 1 x10) fun G42 => some (G42, q13.2) else some (G, q7)
def f_X11_film_b61 (a1 : Int32) (a3 : Int32) (a2 : Int32) (q11 : gP × Int32) : Option ((gP × Int32) ⊕ (gP)) :=
  if (gS q11.1 0 13) ≤ q11.2 then some (.inr q11.1) else gck (gIn q11.2 8) (gck (gIn ((((24 : Int32) * a1) + a3) + q11.2) 96) (gLet (gL1 q11.1 19 ((((24 : Int32) * a1) + a3) + q11.2).toNatClampNeg (f_X11_cut ((gS q11.1 5 q11.2.toNatClampNeg).toInt64) a2)) fun G19 => some (.inl (G19, q11.2 + 1))))
def f_X11_film (G : gP) (a1 : Int32) (a2 : Int32) (a3 : Int32) : Option (gP × Int32) :=
  if (f_X11_isSheet a1) = 0 then some (G, (-1 : Int32)) else if (f_X11_in a2.toInt64 (0 : Int64) (3 : Int64)) = 0 then some (G, (-1 : Int32)) else (f_X11_finds G).bind fun q5 => if (gS q5 0 10) = (-4 : Int32) then some (q5, (-4 : Int32)) else (f_X11_why q5 a1 a2 a3 (gS q5 0 13)).bind fun q8 => if 0 ≤ q8 then (gloop (f_X11_film_b61 a1 a3 a2) gFu (q5, (0 : Int32))).bind fun q12 => some (q12, gS q12 0 13) else some (q5, q8)
def f_J4_numberOfTrailingZeros (a0 : Int32) : Int32 :=
  gLet ((a0 ^^^ (-1 : Int32)) &&& (a0 - (1 : Int32))) fun x1 => if 0 < x1 then gLet (if x1 ≤ (65536 : Int32) then (x1, (1 : Int32)) else gLet (gUshr x1 (16 : Int32)) fun x26 => (x26, (1 : Int32) + 16)) fun q4 => gLet (if q4.1 ≤ (256 : Int32) then (q4.1, q4.2) else gLet (gUshr q4.1 (8 : Int32)) fun x23 => (x23, q4.2 + 8)) fun q7 => gLet (if q7.1 ≤ (16 : Int32) then (q7.1, q7.2) else gLet (gUshr q7.1 (4 : Int32)) fun x20 => (x20, q7.2 + 4)) fun q10 => gLet (if q10.1 ≤ (4 : Int32) then (q10.1, q10.2) else gLet (gUshr q10.1 (2 : Int32)) fun x17 => (x17, q10.2 + 2)) fun q13 => q13.2 + (gUshr q13.1 (1 : Int32)) else x1 &&& (32 : Int32)
def f_J2_numberOfTrailingZeros (a0 : Int64) : Int32 :=
  if a0.toInt32 = 0 then (32 : Int32) + (f_J4_numberOfTrailingZeros ((gUshrL a0 (32 : Int32)).toInt32)) else f_J4_numberOfTrailingZeros a0.toInt32
def f_J2_bitCount (a0 : Int64) : Int32 :=
  gLet (a0 - ((gUshrL a0 (1 : Int32)) &&& (6148914691236517205 : Int64))) fun x1 => gLet ((x1 &&& (3689348814741910323 : Int64)) + ((gUshrL x1 (2 : Int32)) &&& (3689348814741910323 : Int64))) fun x3 => gLet ((x3 + (gUshrL x3 (4 : Int32))) &&& (1085102592571150095 : Int64)) fun x5 => gLet (x5 + (gUshrL x5 (8 : Int32))) fun x7 => gLet (x7 + (gUshrL x7 (16 : Int32))) fun x9 => gLet (x9 + (gUshrL x9 (32 : Int32))) fun x11 => x11.toInt32 &&& (127 : Int32)
def f_X0_isIn (a0 : Int64) (a2 : Int64) (a4 : Int64) : Int32 :=
  if a0 < a2 then (0 : Int32) else if a4 < a0 then (0 : Int32) else (1 : Int32)
def f_X0_isUnit (a0 : Int32) : Int32 :=
  f_X0_isIn a0.toInt64 (1 : Int64) (9 : Int64)
def f_X0_isSlot (G : gP) (a1 : Int32) : Int32 :=
  f_X0_isIn a1.toInt64 (0 : Int64) (((gS G 32 1) - (1 : Int32)).toInt64)
def f_X0_isWord (a0 : Int32) : Int32 :=
  f_X0_isIn a0.toInt64 (0 : Int64) (31 : Int64)
def f_X0_isCost (a0 : Int32) : Int32 :=
  f_X0_isIn a0.toInt64 (0 : Int64) (9 : Int64)
def f_X1_holds_14 (a2 : Int32) : Int32 :=
  if a2 ≤ 0 then (0 : Int32) else (1 : Int32)
def f_X1_holds_15 (a2 : Int32) : Int32 :=
  if a2 ≤ 0 then (0 : Int32) else (1 : Int32)
def f_X1_holds_16 (a2 : Int32) : Int32 :=
  if a2 ≤ 0 then (0 : Int32) else (1 : Int32)
def f_X1_holds_17 (a2 : Int32) : Int32 :=
  if a2 ≤ 0 then (0 : Int32) else (1 : Int32)
def f_X1_holds_18 (a2 : Int32) : Int32 :=
  if a2 ≤ 0 then (0 : Int32) else (1 : Int32)
def f_X1_kind_14  : Int32 :=
  (0 : Int32)
def f_X2_kind_15  : Int32 :=
  (1 : Int32)
def f_X2_part_15 (a1 : Int32) : Int32 :=
  a1
def f_X2_part_17 (a1 : Int32) : Int32 :=
  a1
def f_X4_kind_17  : Int32 :=
  (3 : Int32)
def f_X4_part_17 (a1 : Int32) : Int32 :=
  gRem (f_X2_part_17 a1) (100 : Int32)
def f_X2_holds_15_b5 (a2 : Int32) (G : gP) (q1 : Int32 × Int32) : Option ((Int32 × Int32) ⊕ (Int32)) :=
  if (a2 - (1 : Int32)) ≤ q1.2 then some (.inr q1.1) else gck (gIn q1.2 8) (gLet (q1.1 + (gS G 2 q1.2.toNatClampNeg)) fun x8 => some (.inl (x8, q1.2 + 1)))
def f_X2_holds_15 (G : gP) (a2 : Int32) : Option (Int32) :=
  (gloop (f_X2_holds_15_b5 a2 G) gFu ((0 : Int32), (0 : Int32))).bind fun q2 => if (f_X1_holds_15 (a2 - (1 : Int32))) = 0 then some (0 : Int32) else gck (gIn (a2 - (1 : Int32)) 8) (if (f_X2_part_15 q2) = (f_X2_part_15 (gS G 2 (a2 - (1 : Int32)).toNatClampNeg)) then some (1 : Int32) else some (0 : Int32))
def f_X2_holds_17_b5 (a2 : Int32) (G : gP) (q1 : Int32 × Int32) : Option ((Int32 × Int32) ⊕ (Int32)) :=
  if (a2 - (1 : Int32)) ≤ q1.2 then some (.inr q1.1) else gck (gIn q1.2 8) (gLet (q1.1 + (gS G 2 q1.2.toNatClampNeg)) fun x8 => some (.inl (x8, q1.2 + 1)))
def f_X2_holds_17 (G : gP) (a2 : Int32) : Option (Int32) :=
  (gloop (f_X2_holds_17_b5 a2 G) gFu ((0 : Int32), (0 : Int32))).bind fun q2 => if (f_X1_holds_17 (a2 - (1 : Int32))) = 0 then some (0 : Int32) else gck (gIn (a2 - (1 : Int32)) 8) (if (f_X4_part_17 q2) = (f_X4_part_17 (gS G 2 (a2 - (1 : Int32)).toNatClampNeg)) then some (1 : Int32) else some (0 : Int32))
def f_X3_kind_16  : Int32 :=
  (2 : Int32)
def f_X3_holds_16_b10 (a2 : Int32) (G : gP) (q4 : Int32 × Int32) : Option ((Int32 × Int32) ⊕ (Int32)) :=
  if a2 ≤ q4.2 then some (.inr q4.1) else if q4.1 = 0 then some (.inl ((0 : Int32), q4.2 + 1)) else gck (gIn q4.2 8) (gck (gIn (q4.2 - (1 : Int32)) 8) (if (gS G 2 q4.2.toNatClampNeg) ≤ (gS G 2 (q4.2 - (1 : Int32)).toNatClampNeg) then some (.inl ((0 : Int32), q4.2 + 1)) else some (.inl ((1 : Int32), q4.2 + 1))))
def f_X3_holds_16 (G : gP) (a2 : Int32) : Option (Int32) :=
  gLet (f_X1_holds_16 a2) fun x2 => (gloop (f_X3_holds_16_b10 a2 G) gFu (x2, (1 : Int32))).bind fun q5 => gck (gZ q5) (some q5)
def f_X3_holds_18_b10 (a2 : Int32) (G : gP) (q4 : Int32 × Int32) : Option ((Int32 × Int32) ⊕ (Int32)) :=
  if a2 ≤ q4.2 then some (.inr q4.1) else if q4.1 = 0 then some (.inl ((0 : Int32), q4.2 + 1)) else gck (gIn q4.2 8) (gck (gIn (q4.2 - (1 : Int32)) 8) (if (gS G 2 q4.2.toNatClampNeg) ≤ (gS G 2 (q4.2 - (1 : Int32)).toNatClampNeg) then some (.inl ((0 : Int32), q4.2 + 1)) else some (.inl ((1 : Int32), q4.2 + 1))))
def f_X3_holds_18 (G : gP) (a2 : Int32) : Option (Int32) :=
  gLet (f_X1_holds_18 a2) fun x2 => (gloop (f_X3_holds_18_b10 a2 G) gFu (x2, (1 : Int32))).bind fun q5 => gck (gZ q5) (some q5)
def f_X5_kind_18  : Int32 :=
  (4 : Int32)
def f_X5_holds_18_b10 (a2 : Int32) (G : gP) (q4 : Int32 × Int32) : Option ((Int32 × Int32) ⊕ (Int32)) :=
  if a2 ≤ q4.2 then some (.inr q4.1) else if q4.1 = 0 then some (.inl ((0 : Int32), q4.2 + 1)) else gck (gIn q4.2 8) (gck (gIn (q4.2 - (1 : Int32)) 8) (if ((gS G 2 q4.2.toNatClampNeg) - (gS G 2 (q4.2 - (1 : Int32)).toNatClampNeg)) = ((gS G 2 1) - (gS G 2 0)) then some (.inl ((1 : Int32), q4.2 + 1)) else some (.inl ((0 : Int32), q4.2 + 1))))
def f_X5_holds_18 (G : gP) (a2 : Int32) : Option (Int32) :=
  (f_X3_holds_18 G a2).bind fun q1 => (gloop (f_X5_holds_18_b10 a2 G) gFu (q1, (2 : Int32))).bind fun q5 => gck (gZ q5) (some q5)
def f_X7_add (G : gP) (k0 : Nat) (a1 : Int32) (a2 : Int32) : Option (gP) :=
  gck (gIn (gS G k0 2) 4) (gLet (gS1 G (k0 + 1) (gS G k0 2).toNatClampNeg a1) fun G2 => gck (gIn (gS G2 k0 2) 4) (gLet (gS1 G2 (k0 + 2) (gS G2 k0 2).toNatClampNeg a2) fun G5 => gLet (gS1 G5 k0 2 ((gS G5 k0 2) + (1 : Int32))) fun G7 => some G7))
def f_X7_takeFrom (G : gP) (k0 : Nat) (a1 : Nat) : Option (gP) :=
  gLet (gSc G (a1 + 1) 0 (k0 + 1) 0 4) fun G2 => gLet (gSc G2 (a1 + 2) 0 (k0 + 2) 0 4) fun G5 => gLet (gS1 G5 k0 2 (gS G5 a1 2)) fun G7 => some G7
def f_X7_find_b2 (G : gP) (k0 : Nat) (a1 : Int32) (q1 : Int32) : Option ((Int32) ⊕ ((Unit) ⊕ (Int32))) :=
  if (gS G k0 2) ≤ q1 then some (.inr (.inl ())) else gck (gIn q1 4) (if (gS G (k0 + 1) q1.toNatClampNeg) = a1 then some (.inr (.inr q1)) else some (.inl (q1 + 1)))
def f_X7_find (G : gP) (k0 : Nat) (a1 : Int32) : Option (Int32) :=
  (gloop (f_X7_find_b2 G k0 a1) gFu (0 : Int32)).bind fun q2 => gsum q2 (fun zq2 => some (-4 : Int32)) (fun r => some r)
def f_X7_keepAlone (G : gP) (k0 : Nat) (a1 : Int32) : Option (gP) :=
  gck (gIn a1 4) (gLet (gS1 G (k0 + 1) 0 (gS G (k0 + 1) a1.toNatClampNeg)) fun G2 => gck (gIn a1 4) (gLet (gS1 G2 (k0 + 2) 0 (gS G2 (k0 + 2) a1.toNatClampNeg)) fun G5 => gLet (gS1 G5 k0 2 (1 : Int32)) fun G7 => some G7))
def f_X6_takeFrom_b2 (a1 : Nat) (k0 : Nat) (q1 : gP × Int32) : Option ((gP × Int32) ⊕ (gP)) :=
  if (gS q1.1 a1 1) ≤ q1.2 then some (.inr q1.1) else gck (gIn q1.2 8) ((xRef (gR q1.1 (k0 + 1) q1.2.toNatClampNeg) 7).bind fun k8 => gck (gIn q1.2 8) ((xRef (gR q1.1 (a1 + 1) q1.2.toNatClampNeg) 7).bind fun k12 => (f_X7_takeFrom q1.1 k8 k12).bind fun q15 => some (.inl (q15, q1.2 + 1))))
def f_X6_takeFrom (G : gP) (k0 : Nat) (a1 : Nat) : Option (gP) :=
  (gloop (f_X6_takeFrom_b2 a1 k0) gFu (G, (0 : Int32))).bind fun q2 => gLet (gS1 q2 k0 1 (gS q2 a1 1)) fun G17 => gLet (gS1 G17 k0 2 (gS G17 a1 2)) fun G19 => gLet (gS1 G19 k0 3 (gS G19 a1 3)) fun G21 => gLet (gS1 G21 k0 4 (gS G21 a1 4)) fun G23 => some G23
def f_X6_begin (G : gP) (k0 : Nat) : Option (gP) :=
  gLet (gS1 G k0 1 (0 : Int32)) fun G1 => some G1
def f_X6_come (G : gP) (k0 : Nat) : Option (gP × Nat) :=
  gck (gIn (gS G k0 1) 8) ((xRef (gR G (k0 + 1) (gS G k0 1).toNatClampNeg) 7).bind fun k2 => gLet (gS1 G k2 2 (0 : Int32)) fun G5 => gLet (gS1 G5 k0 1 ((gS G5 k0 1) + (1 : Int32))) fun G7 => some (G7, k2))
def f_X6_lose (G : gP) (k0 : Nat) (a1 : Int32) : Option (gP) :=
  gck (gIn a1 8) ((xRef (gR G (k0 + 1) a1.toNatClampNeg) 7).bind fun k2 => gLet (gS1 G k0 1 ((gS G k0 1) - (1 : Int32))) fun G5 => gck (gCp (a1 + (1 : Int32)) a1 ((gS G5 k0 1) - a1) 8 8) (gck (gEl G5 (k0 + 1) (a1 + (1 : Int32)).toNatClampNeg ((gS G5 k0 1) - a1).toNatClampNeg 7) (gLet (gRc G5 (k0 + 1) (a1 + (1 : Int32)).toNatClampNeg (k0 + 1) a1.toNatClampNeg ((gS G5 k0 1) - a1).toNatClampNeg) fun G9 => gck (gIn (gS G9 k0 1) 8) (gLet (gR1 G9 (k0 + 1) (gS G9 k0 1).toNatClampNeg (some k2)) fun G12 => some G12))))
def f_X10_begin (G : gP) (k0 : Nat) : Option (gP) :=
  gLet (gS1 G k0 0 (0 : Int32)) fun G1 => gLet (gS1 G1 k0 1 (0 : Int32)) fun G3 => gLet (gS1 G3 k0 2 (0 : Int32)) fun G5 => gLet (gS1 G5 k0 3 (0 : Int32)) fun G7 => gLet (gS1 G7 k0 4 (0 : Int32)) fun G9 => some G9
def f_X10_takeFrom (G : gP) (k0 : Nat) (a1 : Nat) : Option (gP) :=
  gLet (gS1 G k0 0 (gS G a1 0)) fun G1 => gLet (gS1 G1 k0 1 (gS G1 a1 1)) fun G3 => gLet (gS1 G3 k0 2 (gS G3 a1 2)) fun G5 => gLet (gS1 G5 k0 3 (gS G5 a1 3)) fun G7 => gck (gZ (gS G7 a1 4)) (gLet (gS1 G7 k0 4 (gS G7 a1 4)) fun G10 => some G10)
def f_X10_mayEnd (G : gP) (k0 : Nat) : Int32 :=
  if (gS G k0 0) = 0 then (0 : Int32) else if (gS G k0 0) = (5 : Int32) then (0 : Int32) else (1 : Int32)
def f_X10_end (G : gP) (k0 : Nat) : Option (gP) :=
  gck (gIn (gS G k0 3) 8) (gLet (gS1 G 2 (gS G k0 3).toNatClampNeg ((gS G k0 2) + (gS G k0 1))) fun G2 => gLet (gS1 G2 k0 3 ((gS G2 k0 3) + (1 : Int32))) fun G4 => gLet (gS1 G4 k0 0 (0 : Int32)) fun G6 => gLet (gS1 G6 k0 1 (0 : Int32)) fun G8 => gLet (gS1 G8 k0 2 (0 : Int32)) fun G10 => gLet (gS1 G10 k0 4 (0 : Int32)) fun G12 => some G12)
def f_X10_goOn (G : gP) (k0 : Nat) (a1 : Int32) (a2 : Int32) (a3 : Int32) : Option (gP × Int32) :=
  if a1 = 0 then gck (gZ a1) (some (G, a1)) else gLet (gS1 G k0 0 a2) fun G3 => gLet (gS1 G3 k0 1 a3) fun G5 => gck (gZ a1) (some (G5, a1))
def f_X10_hearLow (G : gP) (k0 : Nat) (a1 : Int32) : Option (gP × Int32) :=
  gLet (if (gS G k0 0) = 0 then (1 : Int32) else if (gS G k0 0) = (6 : Int32) then (1 : Int32) else (0 : Int32)) fun q1 => gLet (if q1 = 0 then if (gS G k0 0) = (4 : Int32) then (1 : Int32) else if (gS G k0 0) = (5 : Int32) then (1 : Int32) else if (gS G k0 0) = (2 : Int32) then if (f_X0_isUnit a1) = 0 then (0 : Int32) else (1 : Int32) else (0 : Int32) else (1 : Int32)) fun q4 => gLet (if q1 = 0 then if a1 < (20 : Int32) then (3 : Int32) else (2 : Int32) else if (f_X0_isUnit a1) = 0 then if a1 < (20 : Int32) then (3 : Int32) else (2 : Int32) else (1 : Int32)) fun q7 => gck (gIn a1 32) ((f_X10_goOn G k0 q4 q7 ((gS G k0 1) + (xWorth a1.toNatClampNeg))).bind fun q11 => some (q11.1, q11.2))
def f_X10_hearThousand (G : gP) (k0 : Nat) : Option (gP × Int32) :=
  gLet (if (f_X10_mayEnd G k0) = 0 then (0 : Int32) else if (gS G k0 4) = 0 then (1 : Int32) else (0 : Int32)) fun q2 => gLet (if q2 = 0 then G else gLet (gS1 G k0 2 ((gS G k0 1) * (xWorth 29))) fun G12 => gLet (gS1 G12 k0 4 (1 : Int32)) fun G14 => G14) fun q5 => (f_X10_goOn q5 k0 q2 (6 : Int32) (0 : Int32)).bind fun q8 => some (q8.1, q8.2)
def f_X10_hearStop (G : gP) (k0 : Nat) : Option (gP × Int32) :=
  gLet (f_X10_mayEnd G k0) fun x2 => if x2 = 0 then gck (gZ x2) (some (G, x2)) else (f_X10_end G k0).bind fun q6 => gck (gZ x2) (some (q6, x2))
def f_X10_hear (G : gP) (k0 : Nat) (a1 : Int32) : Option (gP × Int32) :=
  if a1 = 0 then some (G, (1 : Int32)) else if a1 = 28 then gLet (if (gS G k0 0) = (1 : Int32) then (1 : Int32) else (0 : Int32)) fun q3 => (f_X10_goOn G k0 q3 (4 : Int32) ((gS G k0 1) * (xWorth 28))).bind fun q6 => some (q6.1, q6.2) else if a1 = 29 then (f_X10_hearThousand G k0).bind fun q11 => some (q11.1, q11.2) else if a1 = 30 then gLet (if (gS G k0 0) = (4 : Int32) then (1 : Int32) else if (gS G k0 0) = (6 : Int32) then (1 : Int32) else (0 : Int32)) fun q15 => (f_X10_goOn G k0 q15 (5 : Int32) (gS G k0 1)).bind fun q18 => some (q18.1, q18.2) else if a1 = 31 then (f_X10_hearStop G k0).bind fun q24 => some (q24.1, q24.2) else (f_X10_hearLow G k0 a1).bind fun q27 => some (q27.1, q27.2)
def f_X12_isSound_526 (G : gP) : Option (Int32) :=
  gck (gIn (gS G 32 2) 5) (if (gS G 32 2) = 0 then some (f_X1_holds_14 (gS G 0 5)) else if (gS G 32 2) = 1 then (f_X2_holds_15 G (gS G 0 5)).bind fun q5 => some q5 else if (gS G 32 2) = 2 then (f_X3_holds_16 G (gS G 0 5)).bind fun q9 => some q9 else if (gS G 32 2) = 3 then (f_X2_holds_17 G (gS G 0 5)).bind fun q13 => some q13 else if (gS G 32 2) = 4 then (f_X5_holds_18 G (gS G 0 5)).bind fun q17 => some q17 else none)
def f_X12_isSound_529 (G : gP) : Option (Int32) :=
  gck (gIn (gS G 32 2) 5) (if (gS G 32 2) = 0 then some (f_X1_holds_14 (gS G 0 5)) else if (gS G 32 2) = 1 then (f_X2_holds_15 G (gS G 0 5)).bind fun q5 => some q5 else if (gS G 32 2) = 2 then (f_X3_holds_16 G (gS G 0 5)).bind fun q9 => some q9 else if (gS G 32 2) = 3 then (f_X2_holds_17 G (gS G 0 5)).bind fun q13 => some q13 else if (gS G 32 2) = 4 then (f_X5_holds_18 G (gS G 0 5)).bind fun q17 => some q17 else none)
def f_X12_isSound_531 (G : gP) : Option (Int32) :=
  gck (gIn (gS G 32 2) 5) (if (gS G 32 2) = 0 then some (f_X1_holds_14 (gS G 0 5)) else if (gS G 32 2) = 1 then (f_X2_holds_15 G (gS G 0 5)).bind fun q5 => some q5 else if (gS G 32 2) = 2 then (f_X3_holds_16 G (gS G 0 5)).bind fun q9 => some q9 else if (gS G 32 2) = 3 then (f_X2_holds_17 G (gS G 0 5)).bind fun q13 => some q13 else if (gS G 32 2) = 4 then (f_X5_holds_18 G (gS G 0 5)).bind fun q17 => some q17 else none)
def f_X12_isSound_532 (G : gP) : Option (Int32) :=
  gck (gIn (gS G 32 2) 5) (if (gS G 32 2) = 0 then some (f_X1_holds_14 (gS G 0 5)) else if (gS G 32 2) = 1 then (f_X2_holds_15 G (gS G 0 5)).bind fun q5 => some q5 else if (gS G 32 2) = 2 then (f_X3_holds_16 G (gS G 0 5)).bind fun q9 => some q9 else if (gS G 32 2) = 3 then (f_X2_holds_17 G (gS G 0 5)).bind fun q13 => some q13 else if (gS G 32 2) = 4 then (f_X5_holds_18 G (gS G 0 5)).bind fun q17 => some q17 else none)
def f_X12_isSound_533 (G : gP) : Option (Int32) :=
  gck (gIn (gS G 32 2) 5) (if (gS G 32 2) = 0 then some (f_X1_holds_14 (gS G 0 5)) else if (gS G 32 2) = 1 then (f_X2_holds_15 G (gS G 0 5)).bind fun q5 => some q5 else if (gS G 32 2) = 2 then (f_X3_holds_16 G (gS G 0 5)).bind fun q9 => some q9 else if (gS G 32 2) = 3 then (f_X2_holds_17 G (gS G 0 5)).bind fun q13 => some q13 else if (gS G 32 2) = 4 then (f_X5_holds_18 G (gS G 0 5)).bind fun q17 => some q17 else none)
def f_X12_isSound_534 (G : gP) : Option (Int32) :=
  gck (gIn (gS G 32 2) 5) (if (gS G 32 2) = 0 then some (f_X1_holds_14 (gS G 0 5)) else if (gS G 32 2) = 1 then (f_X2_holds_15 G (gS G 0 5)).bind fun q5 => some q5 else if (gS G 32 2) = 2 then (f_X3_holds_16 G (gS G 0 5)).bind fun q9 => some q9 else if (gS G 32 2) = 3 then (f_X2_holds_17 G (gS G 0 5)).bind fun q13 => some q13 else if (gS G 32 2) = 4 then (f_X5_holds_18 G (gS G 0 5)).bind fun q17 => some q17 else none)
def f_X13_isAny (G : gP) : Int32 :=
  if (gS G 526 2) ≤ 0 then (0 : Int32) else (1 : Int32)
def f_X13_isSame_b22 (G : gP) (q4 : Int32 × Int32) : Option ((Int32 × Int32) ⊕ (Int32)) :=
  if (gS G 0 5) ≤ q4.2 then some (.inr q4.1) else if q4.1 = 0 then some (.inr q4.1) else gck (gIn q4.2 8) (gck (gIn q4.2 8) (if (gS G 2 q4.2.toNatClampNeg) = (gS G 528 q4.2.toNatClampNeg) then some (.inl ((1 : Int32), q4.2 + 1)) else some (.inl ((0 : Int32), q4.2 + 1))))
def f_X13_isSame (G : gP) : Option (Int32) :=
  gLet (if (gS G 0 5) = (gS G 526 6) then (1 : Int32) else (0 : Int32)) fun q1 => (gloop (f_X13_isSame_b22 G) gFu (q1, (0 : Int32))).bind fun q5 => gck (gZ q5) (some q5)
def f_X13_said (G : gP) (a1 : Int32) : Option (gP) :=
  gLet (gS1 G 526 1 ((gS G 526 1) + (1 : Int32))) fun G1 => (f_X12_isSound_526 G1).bind fun q3 => if q3 = 0 then some G1 else gLet (gS1 G1 526 2 ((gS G1 526 2) + (1 : Int32))) fun G7 => if (gS G7 526 3) ≤ a1 then some G7 else gLet (gS1 G7 526 3 a1) fun G10 => gLet (gSc G10 4 0 527 0 8) fun G13 => gLet (gSc G13 2 0 528 0 8) fun G16 => gLet (gS1 G16 526 6 (gS G16 0 5)) fun G18 => some G18
def f_X14_lay_b21  (q4 : gP × Int32) : Option ((gP × Int32) ⊕ (gP)) :=
  if (8 : Int32) ≤ q4.2 then some (.inr q4.1) else Option.bind (if (gS q4.1 32 1) ≤ q4.2 then some (0 : Int32) else gck (gIn q4.2 8) ((xRef (gR q4.1 33 q4.2.toNatClampNeg) 7).bind fun k26 => gck (gIn q4.2 8) (gck (gIn (gS q4.1 4 q4.2.toNatClampNeg) 4) (some (gS q4.1 (k26 + 1) (gS q4.1 4 q4.2.toNatClampNeg).toNatClampNeg))))) fun q10 => gck (gIn (((8 : Int32) * (gS q4.1 529 2)) + q4.2) 480) (gLet (gS1 q4.1 5 (((8 : Int32) * (gS q4.1 529 2)) + q4.2).toNatClampNeg q10) fun G14 => if (gS G14 0 5) ≤ q4.2 then gck (gIn (((8 : Int32) * (gS G14 529 2)) + q4.2) 480) (gLet (gS1 G14 6 (((8 : Int32) * (gS G14 529 2)) + q4.2).toNatClampNeg (0 : Int32)) fun G18 => some (.inl (G18, q4.2 + 1))) else gck (gIn q4.2 8) (gck (gIn (((8 : Int32) * (gS G14 529 2)) + q4.2) 480) (gLet (gS1 G14 6 (((8 : Int32) * (gS G14 529 2)) + q4.2).toNatClampNeg (gS G14 2 q4.2.toNatClampNeg)) fun G22 => some (.inl (G22, q4.2 + 1)))))
def f_X14_lay (G : gP) : Option (gP) :=
  gck (gIn (gS G 529 2) 60) (gLet (gS1 G 7 (gS G 529 2).toNatClampNeg (gS G 0 5)) fun G2 => (gloop (f_X14_lay_b21) gFu (G2, (0 : Int32))).bind fun q5 => some q5)
def f_X14_said_b18  (q6 : gP × Int32) : Option ((gP × Int32) ⊕ (gP)) :=
  if (gS q6.1 32 1) ≤ q6.2 then some (.inr q6.1) else gck (gIn q6.2 8) (gck (gIn q6.2 8) ((xRef (gR q6.1 33 q6.2.toNatClampNeg) 7).bind fun k14 => gck (gIn q6.2 8) (gck (gIn (gS q6.1 4 q6.2.toNatClampNeg) 4) (gck (gIn q6.2 8) (gLet (gL1 q6.1 530 q6.2.toNatClampNeg ((gL q6.1 530 q6.2.toNatClampNeg) ||| (gShlL (1 : Int64) (gS q6.1 (k14 + 1) (gS q6.1 4 q6.2.toNatClampNeg).toNatClampNeg)))) fun G20 => some (.inl (G20, q6.2 + 1)))))))
def f_X14_said (G : gP) (a1 : Int32) : Option (gP) :=
  if (gS G 529 1) < a1 then some G else (f_X12_isSound_529 G).bind fun q2 => if q2 = 0 then some G else (gloop (f_X14_said_b18) gFu (G, (0 : Int32))).bind fun q7 => Option.bind (if (60 : Int32) ≤ (gS q7 529 2) then some q7 else (f_X14_lay q7).bind fun q37 => some q37) fun q22 => Option.bind (if (gS q22 529 2) = (gS q22 529 4) then gLet (gS1 q22 529 5 a1) fun G31 => gck (gIn ((gS G31 0 5) - (1 : Int32)) 8) (gLet (gS1 G31 529 6 (gS G31 2 ((gS G31 0 5) - (1 : Int32)).toNatClampNeg)) fun G34 => some G34) else some q22) fun q25 => gLet (gS1 q25 529 2 ((gS q25 529 2) + (1 : Int32))) fun G28 => some G28
def f_X14_areSame_b30 (a1 : Int32) (a2 : Int32) (G : gP) (q6 : Int32 × Int32) : Option ((Int32 × Int32) ⊕ (Int32)) :=
  if (8 : Int32) ≤ q6.2 then some (.inr q6.1) else if q6.1 = 0 then some (.inr q6.1) else gck (gIn (((8 : Int32) * a1) + q6.2) 480) (gck (gIn (((8 : Int32) * a2) + q6.2) 480) (if (gS G 6 (((8 : Int32) * a1) + q6.2).toNatClampNeg) = (gS G 6 (((8 : Int32) * a2) + q6.2).toNatClampNeg) then some (.inl ((1 : Int32), q6.2 + 1)) else some (.inl ((0 : Int32), q6.2 + 1))))
def f_X14_areSame (G : gP) (a1 : Int32) (a2 : Int32) : Option (Int32) :=
  gck (gIn a1 60) (gck (gIn a2 60) (gLet (if (gS G 7 a1.toNatClampNeg) = (gS G 7 a2.toNatClampNeg) then (1 : Int32) else (0 : Int32)) fun q3 => (gloop (f_X14_areSame_b30 a1 a2 G) gFu (q3, (0 : Int32))).bind fun q7 => gck (gZ q7) (some q7)))
def f_X14_isSettled_b11 (G : gP) (a1 : Int64) (x1 : Int32) (q3 : Int32 × Int32) : Option ((Int32 × Int32) ⊕ (Int32)) :=
  if (gS G 529 2) ≤ q3.2 then some (.inr q3.1) else if q3.1 = 0 then some (.inr q3.1) else if ((gShrL a1 q3.2) &&& (1 : Int64)) = (0 : Int64) then some (.inl ((1 : Int32), q3.2 + 1)) else (f_X14_areSame G x1 q3.2).bind fun q11 => if q11 = 0 then some (.inl ((0 : Int32), q3.2 + 1)) else some (.inl ((1 : Int32), q3.2 + 1))
def f_X14_isSettled (G : gP) (a1 : Int64) : Option (Int32) :=
  gLet (f_J2_numberOfTrailingZeros a1) fun x1 => (gloop (f_X14_isSettled_b11 G a1 x1) gFu ((1 : Int32), x1)).bind fun q4 => gck (gZ q4) (some q4)
def f_X14_with_b6 (G : gP) (a1 : Int64) (a3 : Int32) (a4 : Int32) (q1 : Int64 × Int32) : Option ((Int64 × Int32) ⊕ (Int64)) :=
  if (gS G 529 2) ≤ q1.2 then some (.inr q1.1) else Option.bind (if ((gShrL a1 q1.2) &&& (1 : Int64)) = (1 : Int64) then gck (gIn (((8 : Int32) * q1.2) + a3) 480) (if (gS G 5 (((8 : Int32) * q1.2) + a3).toNatClampNeg) = a4 then some (gShlL (1 : Int64) q1.2) else some (0 : Int64)) else some (0 : Int64)) fun q7 => gLet (q1.1 ||| q7) fun x10 => some (.inl (x10, q1.2 + 1))
def f_X14_with (G : gP) (a1 : Int64) (a3 : Int32) (a4 : Int32) : Option (Int64) :=
  (gloop (f_X14_with_b6 G a1 a3 a4) gFu ((0 : Int64), (0 : Int32))).bind fun q2 => some q2
def f_X14_mostAlike_b6 (a3 : Int32) (G : gP) (a1 : Int64) (q1 : Int32 × Int32) : Option ((Int32 × Int32) ⊕ (Int32)) :=
  gck (gIn a3 8) ((xRef (gR G 33 a3.toNatClampNeg) 7).bind fun k7 => if (gS G k7 2) ≤ q1.2 then some (.inr q1.1) else gck (gIn a3 8) ((xRef (gR G 33 a3.toNatClampNeg) 7).bind fun k12 => gck (gIn q1.2 4) ((f_X14_with G a1 a3 (gS G (k12 + 1) q1.2.toNatClampNeg)).bind fun q16 => gLet (gMax q1.1 (f_J2_bitCount q16)) fun x18 => some (.inl (x18, q1.2 + 1)))))
def f_X14_mostAlike (G : gP) (a1 : Int64) (a3 : Int32) : Option (Int32) :=
  (gloop (f_X14_mostAlike_b6 a3 G a1) gFu ((0 : Int32), (0 : Int32))).bind fun q2 => some q2
def f_X14_look_b12 (G : gP) (a1 : Int64) (q3 : Int32 × Int32 × Int32) : Option ((Int32 × Int32 × Int32) ⊕ (Int32)) :=
  if (gS G 32 1) ≤ q3.2.2 then some (.inr q3.1) else (f_X14_mostAlike G a1 q3.2.2).bind fun q9 => gLet (if q3.2.1 ≤ q9 then q3.1 else q3.2.2) fun q11 => gLet (gMin q3.2.1 q9) fun x14 => some (.inl (q11, x14, q3.2.2 + 1))
def f_X14_look (G : gP) (a1 : Int64) : Option (Int32) :=
  gLet (f_J2_bitCount a1) fun x1 => (gloop (f_X14_look_b12 G a1) gFu ((-4 : Int32), x1, (0 : Int32))).bind fun q4 => some q4
def f_X14_ask_b31 (q4 : Int32) (G : gP) (a1 : Int64) (recf : gP → Int64 → Option (Int32)) (q8 : Int32 × Int32) : Option ((Int32 × Int32) ⊕ (Int32)) :=
  gck (gIn q4 8) ((xRef (gR G 33 q4.toNatClampNeg) 7).bind fun k14 => if (gS G k14 2) ≤ q8.2 then some (.inr q8.1) else gck (gIn q4 8) ((xRef (gR G 33 q4.toNatClampNeg) 7).bind fun k19 => gck (gIn q8.2 4) ((f_X14_with G a1 q4 (gS G (k19 + 1) q8.2.toNatClampNeg)).bind fun q23 => if q23 = (0 : Int64) then some (.inl (q8.1, q8.2 + 1)) else (recf G q23).bind fun q26 => gLet (gMax q8.1 q26) fun x28 => some (.inl (x28, q8.2 + 1)))))
def f_X14_ask : Nat → gP → Int64 → Option (Int32)
  | 0, _, _ => none
  | dd + 1, G, a1 => (f_X14_isSettled G a1).bind fun q1 => Option.bind (if q1 = 0 then (f_X14_look G a1).bind fun q31 => some q31 else some (-4 : Int32)) fun q4 => if 0 ≤ q4 then (gloop (f_X14_ask_b31 q4 G a1 (f_X14_ask dd)) gFu ((0 : Int32), (0 : Int32))).bind fun q9 => some (q9 + (1 : Int32)) else some (0 : Int32)
def f_X14_all (G : gP) : Int64 :=
  (gShlL (1 : Int64) (gS G 529 2)) - (1 : Int64)
def f_X15_said_b27  (q8 : gP × Int32) : Option ((gP × Int32) ⊕ (gP)) :=
  if (gS q8.1 32 1) ≤ q8.2 then some (.inr q8.1) else gck (gIn q8.2 8) (gck (gIn (((4 : Int32) * q8.2) + (gS q8.1 4 q8.2.toNatClampNeg)) 32) (gck (gIn (((4 : Int32) * q8.2) + (gS q8.1 4 q8.2.toNatClampNeg)) 32) (gLet (gS1 q8.1 10 (((4 : Int32) * q8.2) + (gS q8.1 4 q8.2.toNatClampNeg)).toNatClampNeg ((gS q8.1 10 (((4 : Int32) * q8.2) + (gS q8.1 4 q8.2.toNatClampNeg)).toNatClampNeg) + (1 : Int32))) fun G17 => some (.inl (G17, q8.2 + 1)))))
def f_X15_said (G : gP) (a1 : Int32) : Option (gP) :=
  if (gS G 531 1) < a1 then some G else (f_X12_isSound_531 G).bind fun q2 => if q2 = 0 then some G else gLet (gS1 G 531 2 ((gS G 531 2) + (1 : Int32))) fun G6 => (gloop (f_X15_said_b27) gFu (G6, (0 : Int32))).bind fun q9 => some q9
def f_X16_said (G : gP) (a1 : Int32) : Option (gP) :=
  if (gS G 532 2) ≤ a1 then some G else (f_X12_isSound_532 G).bind fun q2 => if q2 = 0 then some G else (f_X13_isSame G).bind fun q6 => if q6 = 0 then gLet (gS1 G 532 2 a1) fun G10 => some G10 else some G
def f_X17_said_b4 (G : gP) (q1 : Int32 × Int32) : Option ((Int32 × Int32) ⊕ (Int32)) :=
  if (gS G 32 1) ≤ q1.2 then some (.inr q1.1) else gck (gIn q1.2 8) (gck (gIn q1.2 8) (gLet (if (gS G 4 q1.2.toNatClampNeg) = (gS G 527 q1.2.toNatClampNeg) then (0 : Int32) else (1 : Int32)) fun q9 => gLet (q1.1 + q9) fun x12 => some (.inl (x12, q1.2 + 1))))
def f_X17_said (G : gP) (a1 : Int32) : Option (gP) :=
  (gloop (f_X17_said_b4 G) gFu ((0 : Int32), (0 : Int32))).bind fun q2 => if q2 = (1 : Int32) then (f_X12_isSound_533 G).bind fun q18 => if q18 = 0 then gLet (gS1 G 533 2 ((gS G 533 2) + (1 : Int32))) fun G24 => some G24 else gLet (gS1 G 533 2 ((gS G 533 2) + (0 : Int32))) fun G22 => some G22 else gLet (gS1 G 533 2 ((gS G 533 2) + (0 : Int32))) fun G16 => some G16
def f_X18_said_b12 (G : gP) (q5 : Int64 × Int32) : Option ((Int64 × Int32) ⊕ (Int64)) :=
  if (gS G 32 1) ≤ q5.2 then some (.inr q5.1) else gck (gIn q5.2 8) ((xRef (gR G 33 q5.2.toNatClampNeg) 7).bind fun k12 => gck (gIn q5.2 8) (gck (gIn (gS G 4 q5.2.toNatClampNeg) 4) (gLet (q5.1 * (((10 : Int32) - (gS G (k12 + 2) (gS G 4 q5.2.toNatClampNeg).toNatClampNeg)).toInt64)) fun x17 => some (.inl (x17, q5.2 + 1)))))
def f_X18_said (G : gP) (a1 : Int32) : Option (gP) :=
  (f_X12_isSound_534 G).bind fun q1 => if q1 = 0 then some G else (gloop (f_X18_said_b12 G) gFu ((1 : Int64), (0 : Int32))).bind fun q6 => gLet (gL1 G 534 3 ((gL G 534 3) + q6)) fun G19 => gck (gIn ((gS G19 0 5) - (1 : Int32)) 8) (if (gS G19 2 ((gS G19 0 5) - (1 : Int32)).toNatClampNeg) = (gS G19 534 1) then gLet (gL1 G19 534 2 ((gL G19 534 2) + q6)) fun G25 => some G25 else gLet (gL1 G19 534 2 ((gL G19 534 2) + (0 : Int64))) fun G23 => some G23)
def f_X0_finish (G : gP) (a1 : Nat) (a2 : Int32) (a3 : Nat) : Option (gP) :=
  if (f_X10_mayEnd G a1) = 0 then some G else gck (gIn (gS G a1 3) 8) (gLet (gS1 G 2 (gS G a1 3).toNatClampNeg ((gS G a1 2) + (gS G a1 1))) fun G4 => gLet (gS1 G4 0 5 ((gS G4 a1 3) + (1 : Int32))) fun G6 => if a3 = 526 then (f_X13_said G6 a2).bind fun q11 => some q11 else if a3 = 529 then (f_X14_said G6 a2).bind fun q16 => some q16 else if a3 = 531 then (f_X15_said G6 a2).bind fun q21 => some q21 else if a3 = 532 then (f_X16_said G6 a2).bind fun q26 => some q26 else if a3 = 533 then (f_X17_said G6 a2).bind fun q31 => some q31 else if a3 = 534 then (f_X18_said G6 a2).bind fun q36 => some q36 else none)
def f_X0_walk_b38 (k3 : Nat) (a1 : Int32) (recf : gP → Int32 → Int32 → Nat → Option (gP)) (a2 : Int32) (a3 : Nat) (q6 : gP × Int32) : Option ((gP × Int32) ⊕ (gP)) :=
  if (gS q6.1 k3 2) ≤ q6.2 then some (.inr q6.1) else gck (gIn a1 8) (gLet (gS1 q6.1 4 a1.toNatClampNeg q6.2) fun G13 => gck (gIn (a1 + (1 : Int32)) 9) (gck (gIn a1 9) ((f_X10_takeFrom G13 (19 + (a1 + (1 : Int32)).toNatClampNeg) (19 + a1.toNatClampNeg)).bind fun q19 => gck (gIn (a1 + (1 : Int32)) 9) (gck (gIn q6.2 4) ((f_X10_hear q19 (19 + (a1 + (1 : Int32)).toNatClampNeg) (gS q19 (k3 + 1) q6.2.toNatClampNeg)).bind fun q24 => if q24.2 = 0 then some (.inl (q24.1, q6.2 + 1)) else gck (gIn q6.2 4) ((recf q24.1 (a1 + (1 : Int32)) (a2 + (gS q24.1 (k3 + 2) q6.2.toNatClampNeg)) a3).bind fun q29 => some (.inl (q29, q6.2 + 1))))))))
def f_X0_walk : Nat → gP → Int32 → Int32 → Nat → Option (gP)
  | 0, _, _, _, _ => none
  | dd + 1, G, a1, a2, a3 => if a1 = (gS G 32 1) then gck (gIn a1 9) ((f_X0_finish G (19 + a1.toNatClampNeg) a2 a3).bind fun q33 => some q33) else gck (gIn a1 8) ((xRef (gR G 33 a1.toNatClampNeg) 7).bind fun k3 => (gloop (f_X0_walk_b38 k3 a1 (f_X0_walk dd) a2 a3) gFu (G, (0 : Int32))).bind fun q7 => some q7)
def f_X0_listen (G : gP) (a1 : Nat) : Option (gP) :=
  (f_X10_begin G 19).bind fun q1 => (f_X0_walk 9 q1 (0 : Int32) (0 : Int32) a1).bind fun q3 => some q3
def f_X0_type (G : gP) (a1 : Int32) : Option (gP × Int32) :=
  if (f_X0_isIn a1.toInt64 (32 : Int64) (126 : Int64)) = 0 then some (G, (-1 : Int32)) else if (gS G 0 11) = (120 : Int32) then some (G, (-3 : Int32)) else gck (gIn (gS G 0 11) 120) (gLet (gS1 G 9 (gS G 0 11).toNatClampNeg (vp_nar .char ((a1.toUInt32 % 65536).toInt32))) fun G5 => gLet (gS1 G5 0 11 ((gS G5 0 11) + (1 : Int32))) fun G7 => some (G7, gS G7 0 11))
def f_X0_nextLetter_b0  (q1 : gP) : Option ((gP) ⊕ (gP)) :=
  if (gS q1 0 11) ≤ (gS q1 0 12) then some (.inr q1) else gck (gIn (gS q1 0 12) 120) (if (gS q1 9 (gS q1 0 12).toNatClampNeg) = (32 : Int32) then gLet (gS1 q1 0 12 ((gS q1 0 12) + (1 : Int32))) fun G9 => some (.inl G9) else some (.inr q1))
def f_X0_nextLetter (G : gP) : Option (gP × Int32) :=
  (gloop (f_X0_nextLetter_b0) gFu G).bind fun q2 => if (gS q2 0 11) ≤ (gS q2 0 12) then some (q2, (-1 : Int32)) else gck (gIn (gS q2 0 12) 120) (some (q2, gS q2 9 (gS q2 0 12).toNatClampNeg))
def f_X0_faulty (G : gP) : Option (gP) :=
  (f_X0_nextLetter G).bind fun q1 => gLet (gS1 q1.1 8 6 (gS q1.1 0 12)) fun G3 => some G3
def f_X0_isSign (G : gP) (a1 : Int32) : Option (gP × Int32) :=
  (f_X0_nextLetter G).bind fun q1 => if q1.2 = a1 then gLet (gS1 q1.1 0 12 ((gS q1.1 0 12) + (1 : Int32))) fun G4 => some (G4, (1 : Int32)) else some (q1.1, (0 : Int32))
def f_X0_isFigure (G : gP) : Option (Int32) :=
  if (gS G 0 11) ≤ (gS G 0 12) then some (0 : Int32) else gck (gIn (gS G 0 12) 120) (if (f_X0_isIn ((gS G 9 (gS G 0 12).toNatClampNeg).toInt64) (48 : Int64) (57 : Int64)) = 0 then some (0 : Int32) else some (1 : Int32))
def f_X0_readNumber_b4  (q1 : gP × Int32 × Int32) : Option ((gP × Int32 × Int32) ⊕ (gP × Int32)) :=
  if (2 : Int32) ≤ q1.2.2 then some (.inr (q1.1, q1.2.1)) else (f_X0_isFigure q1.1).bind fun q7 => if q7 = 0 then some (.inr (q1.1, q1.2.1)) else gck (gIn (gS q1.1 0 12) 120) (gLet ((((10 : Int32) * q1.2.1) + (gS q1.1 9 (gS q1.1 0 12).toNatClampNeg)) - (48 : Int32)) fun x12 => gLet (gS1 q1.1 0 12 ((gS q1.1 0 12) + (1 : Int32))) fun G14 => some (.inl (G14, x12, q1.2.2 + 1)))
def f_X0_readNumber (G : gP) : Option (gP × Int32) :=
  (gloop (f_X0_readNumber_b4) gFu (G, (0 : Int32), (0 : Int32))).bind fun q2 => some (q2.1, q2.2)
def f_X0_wordBy (a0 : Int32) : Int32 :=
  if (f_X0_isIn a0.toInt64 (1 : Int64) (19 : Int64)) = 0 then if (gRem a0 (10 : Int32)) = 0 then if (f_X0_isIn a0.toInt64 (20 : Int64) (90 : Int64)) = 0 then (-4 : Int32) else (a0 / (10 : Int32)) + (18 : Int32) else (-4 : Int32) else a0
def f_X0_wordOf (a0 : Int32) : Int32 :=
  if a0 = (104 : Int32) then (28 : Int32) else if a0 = (116 : Int32) then (29 : Int32) else if a0 = (97 : Int32) then (30 : Int32) else if a0 = (115 : Int32) then (31 : Int32) else if a0 = (110 : Int32) then (0 : Int32) else (-4 : Int32)
def f_X0_readWord (G : gP) : Option (gP × Int32) :=
  (f_X0_nextLetter G).bind fun q1 => gLet (f_X0_wordOf q1.2) fun x3 => if x3 < 0 then (f_X0_isFigure q1.1).bind fun q6 => if q6 = 0 then some (q1.1, (-4 : Int32)) else (f_X0_readNumber q1.1).bind fun q10 => some (q10.1, f_X0_wordBy q10.2) else gLet (gS1 q1.1 0 12 ((gS q1.1 0 12) + (1 : Int32))) fun G12 => some (G12, x3)
def f_X0_tensWord (a0 : Int32) : Int32 :=
  if (20 : Int32) ≤ (gRem a0 (100 : Int32)) then (gRem (a0 / (10 : Int32)) (10 : Int32)) + (18 : Int32) else gRem a0 (100 : Int32)
def f_X0_unitWord (a0 : Int32) : Int32 :=
  if (20 : Int32) ≤ (gRem a0 (100 : Int32)) then gRem a0 (10 : Int32) else (0 : Int32)
def f_X0_countWords_b10 (G : gP) (q1 : Int32 × Int32) : Option ((Int32 × Int32) ⊕ (Int32)) :=
  if (9 : Int32) ≤ q1.2 then some (.inr q1.1) else gck (gIn q1.2 9) (gLet (gS G 538 q1.2.toNatClampNeg) fun x8 => gLet (if x8 ≤ 0 then (0 : Int32) else (1 : Int32)) fun q10 => gLet (q1.1 + q10) fun x13 => some (.inl (x13, q1.2 + 1)))
def f_X0_countWords (G : gP) : Option (Int32) :=
  (gloop (f_X0_countWords_b10 G) gFu ((0 : Int32), (0 : Int32))).bind fun q2 => some q2
def f_X0_slot (G : gP) (a1 : Int32) (a2 : Int32) (a3 : Int32) : Option (Int32) :=
  if (f_X0_isSlot G a1) = 0 then some (-1 : Int32) else if a2 < (-1 : Int32) then some (-1 : Int32) else if (f_X0_isIn a3.toInt64 (0 : Int64) (1 : Int64)) = 0 then some (-1 : Int32) else gck (gIn a1 8) ((xRef (gR G 33 a1.toNatClampNeg) 7).bind fun k7 => if 0 ≤ a2 then if a2 < (gS G k7 2) then if a3 = 0 then gck (gIn a2 4) (some (gS G (k7 + 1) a2.toNatClampNeg)) else gck (gIn a2 4) (some (gS G (k7 + 2) a2.toNatClampNeg)) else some (-4 : Int32) else some (gS G k7 2))
def f_X0_note (G : gP) : Option (gP) :=
  Option.bind (if (gS G 0 16) = (8 : Int32) then (xRef (gR G 11 0) 6).bind fun k13 => gck (gEl G 11 1 7 6) (gLet (gRc G 11 1 11 0 7) fun G18 => gLet (gR1 G18 11 7 (some k13)) fun G20 => gLet (gS1 G20 0 16 ((gS G20 0 16) - (1 : Int32))) fun G22 => some G22) else some G) fun q1 => gck (gIn (gS q1 0 16) 8) ((xRef (gR q1 11 (gS q1 0 16).toNatClampNeg) 6).bind fun k5 => (f_X6_takeFrom q1 k5 32).bind fun q8 => gLet (gS1 q8 0 16 ((gS q8 0 16) + (1 : Int32))) fun G10 => some G10)
def f_X0_hear (G : gP) (a1 : Int32) (a2 : Int32) : Option (gP × Int32) :=
  if (f_X0_isWord a1) = 0 then some (G, (-1 : Int32)) else if (f_X0_isCost a2) = 0 then some (G, (-1 : Int32)) else if (gS G 32 1) = (8 : Int32) then some (G, (-3 : Int32)) else (f_X0_note G).bind fun q6 => (f_X6_come q6 32).bind fun q8 => (f_X7_add q8.1 q8.2 a1 a2).bind fun q11 => some (q11, gS q11 32 1)
def f_X0_also (G : gP) (a1 : Int32) (a2 : Int32) (a3 : Int32) : Option (gP × Int32) :=
  if (f_X0_isSlot G a1) = 0 then some (G, (-1 : Int32)) else if (f_X0_isWord a2) = 0 then some (G, (-1 : Int32)) else if (f_X0_isCost a3) = 0 then some (G, (-1 : Int32)) else gck (gIn a1 8) ((xRef (gR G 33 a1.toNatClampNeg) 7).bind fun k8 => (f_X7_find G k8 a2).bind fun q11 => if q11 < 0 then if (gS G k8 2) = (4 : Int32) then some (G, (-3 : Int32)) else (f_X0_note G).bind fun q15 => (f_X7_add q15 k8 a2 a3).bind fun q17 => some (q17, gS q17 k8 2) else some (G, (-2 : Int32)))
def f_X0_lose (G : gP) (a1 : Int32) : Option (gP × Int32) :=
  if (f_X0_isSlot G a1) = 0 then some (G, (-1 : Int32)) else (f_X0_note G).bind fun q3 => (f_X6_lose q3 32 a1).bind fun q5 => some (q5, gS q5 32 1)
def f_X0_settle (G : gP) (a1 : Int32) (a2 : Int32) : Option (gP × Int32) :=
  if (f_X0_isSlot G a1) = 0 then some (G, (-1 : Int32)) else if (f_X0_isWord a2) = 0 then some (G, (-1 : Int32)) else gck (gIn a1 8) ((xRef (gR G 33 a1.toNatClampNeg) 7).bind fun k6 => (f_X7_find G k6 a2).bind fun q9 => if q9 < 0 then some (G, (-2 : Int32)) else if (gS G k6 2) = (1 : Int32) then some (G, (-2 : Int32)) else (f_X0_note G).bind fun q13 => gLet ((gS q13 k6 2) - (1 : Int32)) fun x15 => (f_X7_keepAlone q13 k6 q9).bind fun q17 => some (q17, x15))
def f_X0_check (G : gP) (a1 : Int32) : Option (gP × Int32) :=
  if (f_X0_isIn a1.toInt64 (0 : Int64) (4 : Int64)) = 0 then some (G, (-1 : Int32)) else gck (gIn (gS G 32 2) 5) (if (gS G 32 2) = 0 then if f_X1_kind_14 = a1 then some (G, (-2 : Int32)) else (f_X0_note G).bind fun q6 => gLet (gS1 q6 32 2 a1) fun G8 => some (G8, f_X1_kind_14) else if (gS G 32 2) = 1 then if f_X2_kind_15 = a1 then some (G, (-2 : Int32)) else (f_X0_note G).bind fun q12 => gLet (gS1 q12 32 2 a1) fun G14 => some (G14, f_X2_kind_15) else if (gS G 32 2) = 2 then if f_X3_kind_16 = a1 then some (G, (-2 : Int32)) else (f_X0_note G).bind fun q18 => gLet (gS1 q18 32 2 a1) fun G20 => some (G20, f_X3_kind_16) else if (gS G 32 2) = 3 then if f_X4_kind_17 = a1 then some (G, (-2 : Int32)) else (f_X0_note G).bind fun q24 => gLet (gS1 q24 32 2 a1) fun G26 => some (G26, f_X4_kind_17) else if (gS G 32 2) = 4 then if f_X5_kind_18 = a1 then some (G, (-2 : Int32)) else (f_X0_note G).bind fun q30 => gLet (gS1 q30 32 2 a1) fun G32 => some (G32, f_X5_kind_18) else none)
def f_X0_slack (G : gP) (a1 : Int32) : Option (gP × Int32) :=
  if (f_X0_isIn a1.toInt64 (0 : Int64) (20 : Int64)) = 0 then some (G, (-1 : Int32)) else gLet (gS G 32 3) fun x3 => if x3 = a1 then some (G, (-2 : Int32)) else (f_X0_note G).bind fun q6 => gLet (gS1 q6 32 3 a1) fun G8 => some (G8, x3)
def f_X0_drawOnce (G : gP) : Option (gP) :=
  gLet (gS1 G 32 4 ((((((gS G 32 4).toInt64) * (1103515245 : Int64)) + (12345 : Int64)) &&& (2147483647 : Int64)).toInt32)) fun G1 => gLet ((gS G1 32 4) / (65536 : Int32)) fun x3 => if (gS G1 32 1) = 0 then some G1 else gck (gNz (gS G1 32 1)) (gck (gIn (gRem x3 (gS G1 32 1)) 8) ((xRef (gR G1 33 (gRem x3 (gS G1 32 1)).toNatClampNeg) 7).bind fun k8 => gLet (gRem (x3 / (8 : Int32)) (32 : Int32)) fun x11 => if (4 : Int32) ≤ (gS G1 k8 2) then some G1 else (f_X7_find G1 k8 x11).bind fun q14 => if 0 ≤ q14 then some G1 else (f_X7_add G1 k8 x11 (gRem (x3 / (256 : Int32)) (10 : Int32))).bind fun q17 => some q17))
def f_X0_storm_b16 (a1 : Int32) (q3 : gP × Int32) : Option ((gP × Int32) ⊕ (gP)) :=
  if a1 ≤ q3.2 then some (.inr q3.1) else (f_X0_note q3.1).bind fun q9 => (f_X0_drawOnce q9).bind fun q11 => some (.inl (q11, q3.2 + 1))
def f_X0_storm_b39 (q4 : gP) (q13 : Int32 × Int32) : Option ((Int32 × Int32) ⊕ (Int32)) :=
  if (gS q4 32 1) ≤ q13.2 then some (.inr q13.1) else gck (gIn q13.2 8) ((xRef (gR q4 33 q13.2.toNatClampNeg) 7).bind fun k20 => gLet (q13.1 + (gS q4 k20 2)) fun x23 => some (.inl (x23, q13.2 + 1)))
def f_X0_storm (G : gP) (a1 : Int32) : Option (gP × Int32) :=
  if (f_X0_isIn a1.toInt64 (1 : Int64) (40 : Int64)) = 0 then some (G, (-1 : Int32)) else (gloop (f_X0_storm_b16 a1) gFu (G, (0 : Int32))).bind fun q4 => (gloop (f_X0_storm_b39 q4) gFu ((0 : Int32), (0 : Int32))).bind fun q14 => some (q4, q14)
def f_X0_undo (G : gP) : Option (gP × Int32) :=
  if (gS G 0 16) = 0 then some (G, (-4 : Int32)) else gLet (gS1 G 0 16 ((gS G 0 16) - (1 : Int32))) fun G2 => gck (gIn (gS G2 0 16) 8) ((xRef (gR G2 11 (gS G2 0 16).toNatClampNeg) 6).bind fun k5 => (f_X6_takeFrom G2 32 k5).bind fun q8 => some (q8, gS q8 0 16))
def f_X0_seed (G : gP) (a1 : Int32) : Option (gP × Int32) :=
  if 0 ≤ a1 then gLet (gS G 32 4) fun x2 => gLet (gS1 G 32 4 a1) fun G4 => some (G4, x2) else some (G, (-1 : Int32))
def f_X0_image_b13  (q3 : gP × Int32) : Option ((gP × Int32) ⊕ (gP)) :=
  if (gS q3.1 0 16) ≤ q3.2 then some (.inr q3.1) else gck (gIn q3.2 8) ((xRef (gR q3.1 12 q3.2.toNatClampNeg) 6).bind fun k10 => gck (gIn q3.2 8) ((xRef (gR q3.1 11 q3.2.toNatClampNeg) 6).bind fun k14 => (f_X6_takeFrom q3.1 k10 k14).bind fun q17 => some (.inl (q17, q3.2 + 1))))
def f_X0_image (G : gP) : Option (gP × Int32) :=
  (f_X6_takeFrom G 84 32).bind fun q1 => (gloop (f_X0_image_b13) gFu (q1, (0 : Int32))).bind fun q4 => gLet (gS1 q4 0 19 (gS q4 0 16)) fun G19 => gLet (gS1 G19 0 20 (1 : Int32)) fun G21 => some (G21, (1 : Int32))
def f_X0_restore_b23  (q4 : gP × Int32) : Option ((gP × Int32) ⊕ (gP)) :=
  if (gS q4.1 0 19) ≤ q4.2 then some (.inr q4.1) else gck (gIn q4.2 8) ((xRef (gR q4.1 11 q4.2.toNatClampNeg) 6).bind fun k11 => gck (gIn q4.2 8) ((xRef (gR q4.1 12 q4.2.toNatClampNeg) 6).bind fun k15 => (f_X6_takeFrom q4.1 k11 k15).bind fun q18 => some (.inl (q18, q4.2 + 1))))
def f_X0_restore (G : gP) : Option (gP × Int32) :=
  if (gS G 0 20) = 0 then some (G, (-4 : Int32)) else (f_X6_takeFrom G 32 84).bind fun q2 => (gloop (f_X0_restore_b23) gFu (q2, (0 : Int32))).bind fun q5 => gLet (gS1 q5 0 16 (gS q5 0 19)) fun G20 => some (G20, (1 : Int32))
def f_X0_isSheet (a0 : Int32) (a1 : Int32) : Int32 :=
  if (f_X0_isIn a0.toInt64 (0 : Int64) (3 : Int64)) = 0 then (0 : Int32) else if (f_X0_isIn a1.toInt64 (0 : Int64) (3 : Int64)) = 0 then (0 : Int32) else (1 : Int32)
def f_X9_lane (T : Nat → Nat × Nat) (G : gP) (k0 : Nat) : Option (Int32) :=
  gck (xRq T (gR G k0 0)) (if (xIs T (gR G k0 0) 103) = 0 then gck (xRq T (gR G k0 0)) (if (xIs T (gR G k0 0) 104) = 0 then gck (xRq T (gR G k0 0)) (if (xIs T (gR G k0 0) 100) = 0 then some (3 : Int32) else some (2 : Int32)) else some (1 : Int32)) else some (0 : Int32))
def f_X9_size (T : Nat → Nat × Nat) (G : gP) (k0 : Nat) : Option (Int32) :=
  gck (xRq T (gR G k0 0)) (if (xIs T (gR G k0 0) 103) = 0 then gck (xRq T (gR G k0 0)) (if (xIs T (gR G k0 0) 104) = 0 then gck (xRq T (gR G k0 0)) (if (xIs T (gR G k0 0) 100) = 0 then gck (xRq T (gR G k0 0)) ((xCa T (gR G k0 0) 101).bind fun n8 => some (nI (T n8).2)) else (xCa T (gR G k0 0) 100).bind fun n10 => some (nI (T n10).2)) else (xCa T (gR G k0 0) 104).bind fun n12 => some (nI (T n12).2)) else (xCa T (gR G k0 0) 103).bind fun n14 => some (nI (T n14).2))
def f_X9_get (T : Nat → Nat × Nat) (G : gP) (k0 : Nat) (a1 : Int32) : Option (Int64) :=
  gck (xRq T (gR G k0 0)) (if (xIs T (gR G k0 0) 103) = 0 then gck (xRq T (gR G k0 0)) (if (xIs T (gR G k0 0) 104) = 0 then gck (xRq T (gR G k0 0)) (if (xIs T (gR G k0 0) 100) = 0 then gck (xRq T (gR G k0 0)) ((xCa T (gR G k0 0) 101).bind fun n8 => gck (gIn a1 ((T n8).2)) (some (gL G n8 a1.toNatClampNeg))) else (xCa T (gR G k0 0) 100).bind fun n11 => gck (gIn a1 ((T n11).2)) (some ((gS G n11 a1.toNatClampNeg).toInt64))) else (xCa T (gR G k0 0) 104).bind fun n14 => gck (gIn a1 ((T n14).2)) (some ((gS G n14 a1.toNatClampNeg).toInt64))) else (xCa T (gR G k0 0) 103).bind fun n17 => gck (gIn a1 ((T n17).2)) (some ((gS G n17 a1.toNatClampNeg).toInt64)))
def f_X9_lay (T : Nat → Nat × Nat) (G : gP) (k0 : Nat) (a1 : Int32) (a2 : Int32) (a3 : Int64) : Option (gP) :=
  if a1 = 0 then gck (xRq T (gR G k0 0)) ((xCa T (gR G k0 0) 103).bind fun n3 => gck (gIn a2 ((T n3).2)) (gLet (gS1 G n3 a2.toNatClampNeg (vp_nar .byte a3.toInt32.toInt8.toInt32)) fun G6 => some G6)) else if a1 = 1 then gck (xRq T (gR G k0 0)) ((xCa T (gR G k0 0) 104).bind fun n10 => gck (gIn a2 ((T n10).2)) (gLet (gS1 G n10 a2.toNatClampNeg (vp_nar .short a3.toInt32.toInt16.toInt32)) fun G13 => some G13)) else if a1 = 2 then gck (xRq T (gR G k0 0)) ((xCa T (gR G k0 0) 100).bind fun n17 => gck (gIn a2 ((T n17).2)) (gLet (gS1 G n17 a2.toNatClampNeg a3.toInt32) fun G20 => some G20)) else gck (xRq T (gR G k0 0)) ((xCa T (gR G k0 0) 101).bind fun n23 => gck (gIn a2 ((T n23).2)) (gLet (gL1 G n23 a2.toNatClampNeg a3) fun G26 => some G26))
def f_X0_lacks (T : Nat → Nat × Nat) (G : gP) (a1 : Int32) (a2 : Int32) (a3 : Int32) (a4 : Int32) : Option (Int32) :=
  gck (gIn a1 4) (gck (xRq T (gR G (28 + a1.toNatClampNeg) 0)) (if gR G (28 + a1.toNatClampNeg) 0 = none then some (-11 : Int32) else (f_X9_lane T G (28 + a1.toNatClampNeg)).bind fun q6 => if q6 = a2 then if a3 < 0 then some (-13 : Int32) else (f_X9_size T G (28 + a1.toNatClampNeg)).bind fun q10 => if a3 ≤ (q10 - a4) then some (0 : Int32) else some (-13 : Int32) else some (-12 : Int32)))
def f_X0_drop (T : Nat → Nat × Nat) (G : gP) (a1 : Int32) : Option (gP × Int32) :=
  if (f_X0_isSheet a1 (0 : Int32)) = 0 then some (G, (-1 : Int32)) else gck (gIn a1 4) (gck (xRq T (gR G (28 + a1.toNatClampNeg) 0)) (if gR G (28 + a1.toNatClampNeg) 0 = none then some (G, (-11 : Int32)) else gck (gIn a1 4) ((f_X9_size T G (28 + a1.toNatClampNeg)).bind fun q10 => gck (gIn a1 4) (gLet (gR1 G (28 + a1.toNatClampNeg) 0 none) fun G14 => some (G14, q10)))))
def xPo (T : Nat → Nat × Nat) (ad : Nat → Nat) (I : List Nat) (u : (Nat → Nat) × List Nat) : Prop := xAg ad u.1 ∧ xOK T u.2 ∧ ∀ k, 539 ≤ k → (k ∈ u.2 ↔ k ∈ I)
def xI38 (I : List Nat) : List Nat := xI0 I ++ [538]
noncomputable def f_X6_say_b12  (q3 : gP × Int32) : Option ((gP × Int32) ⊕ (gP)) :=
  if (9 : Int32) ≤ q3.2 then some (.inr q3.1) else gck (gIn q3.2 9) (gLet (gS q3.1 538 q3.2.toNatClampNeg) fun x10 => if x10 ≤ 0 then some (.inl (q3.1, q3.2 + 1)) else (f_X6_come q3.1 32).bind fun q13 => gck (gDec (xRk q13.1)) (gLet (xMk7 q13.1 x10) fun G18 => (f_X7_takeFrom G18 q13.2 535).bind fun q21 => some (.inl (q21, q3.2 + 1))))
noncomputable def f_X6_say (G : gP)  : Option (gP) :=
  (f_X6_begin G 32).bind fun q1 => (gloop (f_X6_say_b12) 10 (q1, (0 : Int32))).bind fun q4 => some q4
noncomputable def f_X0_sayAll (G : gP)  : Option (gP × Int32) :=
  (f_X0_countWords G).bind fun q1 => if q1 ≤ (8 : Int32) then (f_X6_say G).bind fun q4 => gLet (gS1 q4 0 16 (0 : Int32)) fun G6 => some (G6, gS G6 32 1) else some (G, (-3 : Int32))
noncomputable def f_X0_say (G : gP) (a1 : Int32) : Option (gP × Int32) :=
  if (f_X0_isIn a1.toInt64 (1 : Int64) (999999 : Int64)) = 0 then some (G, (-1 : Int32)) else gLet (a1 / (1000 : Int32)) fun x3 => gLet (gRem a1 (1000 : Int32)) fun x5 => gck (gDec (xRk G)) (gLet (gSa G 538 (fun _ => 0)) fun G8 => gLet (gS1 G8 538 0 (x3 / (100 : Int32))) fun G10 => gLet (if (100 : Int32) ≤ x3 then (28 : Int32) else (0 : Int32)) fun q12 => gLet (gS1 G10 538 1 q12) fun G15 => gLet (gS1 G15 538 2 (f_X0_tensWord x3)) fun G17 => gLet (gS1 G17 538 3 (f_X0_unitWord x3)) fun G19 => gLet (if x3 = 0 then (0 : Int32) else (29 : Int32)) fun q21 => gLet (gS1 G19 538 4 q21) fun G24 => gLet (gS1 G24 538 5 (x5 / (100 : Int32))) fun G26 => gLet (if (100 : Int32) ≤ x5 then (28 : Int32) else (0 : Int32)) fun q28 => gLet (gS1 G26 538 6 q28) fun G31 => gLet (gS1 G31 538 7 (f_X0_tensWord x5)) fun G33 => gLet (gS1 G33 538 8 (f_X0_unitWord x5)) fun G35 => (f_X0_sayAll G35).bind fun q37 => some (q37.1, q37.2))
noncomputable def f_X0_first (G : gP)  : Option (gP) :=
  gck (gDec (xRk G)) (gLet (xMk13 G ) fun G3 => (f_X0_listen G3 526).bind fun q5 => some q5)
noncomputable def f_X0_countedOnes (G : gP) (a1 : Int32) : Option (gP) :=
  (f_X0_first G).bind fun q1 => Option.bind (if (f_X13_isAny q1) = 0 then gck (gDec (xRk q1)) (gLet (xMk14 q1 (-4 : Int32) (-4 : Int32)) fun G12 => some G12) else if 0 ≤ a1 then gck (gDec (xRk q1)) (gLet (xMk14 q1 ((gS q1 526 3) + (gS q1 32 3)) a1) fun G17 => some G17) else gck (gDec (xRk q1)) (gLet (xMk14 q1 ((gS q1 526 3) + (gS q1 32 3)) (-4 : Int32)) fun G21 => some G21)) fun q4 => (f_X0_listen q4 529).bind fun q7 => some q7
noncomputable def f_X0_questions (G : gP)  : Option (gP × Int32) :=
  (f_X0_countedOnes G (-4 : Int32)).bind fun q1 => if (gS q1 529 2) = 0 then some (q1, (-4 : Int32)) else if (gS q1 529 2) ≤ (60 : Int32) then (f_X14_ask 61 q1 (f_X14_all q1)).bind fun q5 => some (q1, q5) else some (q1, (-4 : Int32))
noncomputable def f_X0_lookAtMany_b2  (q1 : gP × Int32) : Option ((gP × Int32) ⊕ (gP)) :=
  if (32 : Int32) ≤ q1.2 then some (.inr q1.1) else gck (gIn q1.2 32) (gLet (gS1 q1.1 10 q1.2.toNatClampNeg (0 : Int32)) fun G8 => some (.inl (G8, q1.2 + 1)))
noncomputable def f_X0_lookAtMany_b81 (q20 : Int32 × Int32 × Int32) (q16 : gP) (q26 : Int32 × Int32) : Option ((Int32 × Int32) ⊕ (Int32)) :=
  if (4 : Int32) ≤ q26.2 then some (.inr q26.1) else gck (gIn (((4 : Int32) * q20.2.2) + q26.2) 32) (gLet (gMax q26.1 (gS q16 10 (((4 : Int32) * q20.2.2) + q26.2).toNatClampNeg)) fun x33 => some (.inl (x33, q26.2 + 1)))
noncomputable def f_X0_lookAtMany_b63 (q16 : gP) (q20 : Int32 × Int32 × Int32) : Option ((Int32 × Int32 × Int32) ⊕ (Int32)) :=
  if (gS q16 32 1) ≤ q20.2.2 then some (.inr q20.1) else (gloop (f_X0_lookAtMany_b81 q20 q16) gFu ((0 : Int32), (0 : Int32))).bind fun q27 => gLet (if q20.2.1 ≤ q27 then q20.1 else q20.2.2) fun q35 => gLet (gMin q20.2.1 q27) fun x38 => some (.inl (q35, x38, q20.2.2 + 1))
noncomputable def f_X0_lookAtMany (G : gP)  : Option (gP × Int32) :=
  (gloop (f_X0_lookAtMany_b2) gFu (G, (0 : Int32))).bind fun q2 => (f_X0_first q2).bind fun q11 => gck (gDec (xRk q11)) (gLet (xMk15 q11 ((gS q11 526 3) + (gS q11 32 3))) fun G14 => (f_X0_listen G14 531).bind fun q16 => gLet (gS q16 531 2) fun x18 => (gloop (f_X0_lookAtMany_b63 q16) gFu ((-4 : Int32), x18, (0 : Int32))).bind fun q21 => some (q16, q21))
noncomputable def f_X0_look (G : gP)  : Option (gP × Int32) :=
  (f_X0_countedOnes G (-4 : Int32)).bind fun q1 => if (60 : Int32) < (gS q1 529 2) then (f_X0_lookAtMany q1).bind fun q4 => some (q4.1, q4.2) else (f_X14_look q1 (f_X14_all q1)).bind fun q6 => some (q1, q6)
noncomputable def f_X0_nextCost (G : gP)  : Option (gP × Int32) :=
  (f_X0_first G).bind fun q2 => gck (gDec (xRk q2)) (gLet (xMk16 q2 ) fun G5 => (f_X0_listen G5 532).bind fun q7 => if (1000000 : Int32) ≤ (gS q7 532 2) then some (q7, (-4 : Int32)) else some (q7, gS q7 532 2))
noncomputable def f_X0_spoiltMany (G : gP)  : Option (gP × Int32) :=
  (f_X0_first G).bind fun q1 => if (f_X13_isAny q1) = 0 then some (q1, (-4 : Int32)) else gck (gDec (xRk q1)) (gLet (xMk17 q1 ) fun G7 => (f_X0_listen G7 533).bind fun q9 => some (q9, gS q9 533 2))
noncomputable def f_X0_count (G : gP) (a1 : Int32) : Option (gP × Int32) :=
  if a1 = 0 then some (G, gS G 32 1) else if a1 = 1 then some (G, gS G 32 2) else if a1 = 2 then some (G, gS G 32 3) else if a1 = 3 then (f_X0_first G).bind fun q5 => some (q5, gS q5 526 1) else if a1 = 4 then (f_X0_first G).bind fun q8 => some (q8, gS q8 526 2) else if a1 = 5 then (f_X0_countedOnes G (-4 : Int32)).bind fun q11 => some (q11, gS q11 529 2) else if a1 = 6 then (f_X0_look G).bind fun q14 => some (q14.1, q14.2) else if a1 = 7 then (f_X0_questions G).bind fun q17 => some (q17.1, q17.2) else if a1 = 8 then (f_X0_nextCost G).bind fun q20 => some (q20.1, q20.2) else if a1 = 9 then (f_X0_spoiltMany G).bind fun q23 => some (q23.1, q23.2) else if a1 = 10 then some (G, gS G 0 16) else some (G, (-1 : Int32))
noncomputable def f_X0_best (G : gP) (a1 : Int32) : Option (gP × Int32) :=
  if (-2 : Int32) ≤ a1 then (f_X0_first G).bind fun q2 => if (f_X13_isAny q2) = 0 then some (q2, (-4 : Int32)) else if a1 = (-2 : Int32) then some (q2, gS q2 526 6) else if a1 = (-1 : Int32) then some (q2, gS q2 526 3) else if (gS q2 526 6) ≤ a1 then some (q2, (-4 : Int32)) else gck (gIn a1 8) (some (q2, gS q2 528 a1.toNatClampNeg)) else some (G, (-1 : Int32))
noncomputable def f_X0_taken (G : gP) (a1 : Int32) : Option (gP × Int32) :=
  if (f_X0_isSlot G a1) = 0 then some (G, (-1 : Int32)) else (f_X0_first G).bind fun q3 => if (f_X13_isAny q3) = 0 then some (q3, (-4 : Int32)) else gck (gIn a1 8) ((xRef (gR q3 33 a1.toNatClampNeg) 7).bind fun k8 => gck (gIn a1 8) (gck (gIn (gS q3 527 a1.toNatClampNeg) 4) (some (q3, gS q3 (k8 + 1) (gS q3 527 a1.toNatClampNeg).toNatClampNeg))))
noncomputable def f_X0_open (G : gP) (a1 : Int32) : Option (gP × Int64) :=
  if (f_X0_isSlot G a1) = 0 then some (G, (-1 : Int64)) else (f_X0_countedOnes G (-4 : Int32)).bind fun q3 => gck (gIn a1 8) (some (q3, gL q3 530 a1.toNatClampNeg))
noncomputable def f_X0_counted (G : gP) (a1 : Int32) (a2 : Int32) : Option (gP × Int32) :=
  if a1 < 0 then some (G, (-1 : Int32)) else if (f_X0_isIn a2.toInt64 (0 : Int64) (1 : Int64)) = 0 then some (G, (-1 : Int32)) else (f_X0_countedOnes G a1).bind fun q4 => if a1 < (gS q4 529 2) then if a2 = 0 then some (q4, gS q4 529 5) else some (q4, gS q4 529 6) else some (q4, (-4 : Int32))
noncomputable def f_X0_likely_b68  (q16 : Int64 × Int64) : Option ((Int64 × Int64) ⊕ (Int64)) :=
  if q16.2 = (0 : Int64) then some (.inr q16.1) else gck (gNzL q16.2) (gLet (gRemL q16.1 q16.2) fun x23 => some (.inl (q16.2, x23)))
noncomputable def f_X0_likely (G : gP) (a1 : Int32) (a2 : Int32) : Option (gP × Int64) :=
  if (f_X0_isIn a1.toInt64 (0 : Int64) (999999 : Int64)) = 0 then some (G, (-1 : Int64)) else if (f_X0_isIn a2.toInt64 (0 : Int64) (1 : Int64)) = 0 then some (G, (-1 : Int64)) else gck (gDec (xRk G)) (gLet (xMk18 G a1) fun G7 => (f_X0_listen G7 534).bind fun q9 => if (gL q9 534 3) = (0 : Int64) then some (q9, (-4 : Int64)) else gLet (gL q9 534 2) fun x12 => gLet (gL q9 534 3) fun x14 => (gloop (f_X0_likely_b68) gFu (x12, x14)).bind fun q17 => if a2 = 0 then gck (gNzL q17) (some (q9, (gL q9 534 2) / q17)) else gck (gNzL q17) (some (q9, (gL q9 534 3) / q17)))
noncomputable def f_X0_isSo_b33 (a3 : Int32) (T : Nat → Nat × Nat) (q1 : gP) (a1 : Nat) (a2 : Int32) (q7 : Int32 × Int32) : Option ((Int32 × Int32) ⊕ (Int32)) :=
  if a3 ≤ q7.2 then some (.inr q7.1) else if q7.1 = 0 then some (.inr q7.1) else (f_X9_get T q1 a1 (a2 + q7.2)).bind fun q14 => gck (gIn q7.2 8) (if q14 = ((gS q1 528 q7.2.toNatClampNeg).toInt64) then some (.inl ((1 : Int32), q7.2 + 1)) else some (.inl ((0 : Int32), q7.2 + 1)))
noncomputable def f_X0_isSo (T : Nat → Nat × Nat) (G : gP) (a1 : Nat) (a2 : Int32) (a3 : Int32) : Option (gP × Int32) :=
  (f_X0_first G).bind fun q1 => gLet (if (f_X13_isAny q1) = 0 then (0 : Int32) else if (gS q1 526 6) = a3 then (1 : Int32) else (0 : Int32)) fun q4 => (gloop (f_X0_isSo_b33 a3 T q1 a1 a2) gFu (q4, (0 : Int32))).bind fun q8 => gck (gZ q8) (some (q1, q8))
noncomputable def f_X0_meant_b57 (a1 : Int32) (T : Nat → Nat × Nat) (a3 : Int32) (a4 : Int32) (q10 : gP × Int32 × Int32) : Option ((gP × Int32 × Int32) ⊕ (gP × Int32)) :=
  if (5 : Int32) ≤ q10.2.2 then some (.inr (q10.1, q10.2.1)) else gLet (gS1 q10.1 32 2 q10.2.2) fun G16 => gck (gIn a1 4) ((f_X0_isSo T G16 (28 + a1.toNatClampNeg) a3 a4).bind fun q20 => gLet (if q20.2 = 0 then (0 : Int32) else gShl (1 : Int32) q10.2.2) fun q23 => gLet (q10.2.1 ||| q23) fun x26 => some (.inl (q20.1, x26, q10.2.2 + 1)))
noncomputable def f_X0_meant (T : Nat → Nat × Nat) (G : gP) (a1 : Int32) (a2 : Int32) (a3 : Int32) (a4 : Int32) : Option (gP × Int32) :=
  if (f_X0_isSheet a1 a2) = 0 then some (G, (-1 : Int32)) else if (f_X0_isIn a4.toInt64 (1 : Int64) (6 : Int64)) = 0 then some (G, (-1 : Int32)) else (f_X0_lacks T G a1 a2 a3 a4).bind fun q5 => if 0 ≤ q5 then gLet (gS G 32 2) fun x8 => (gloop (f_X0_meant_b57 a1 T a3 a4) 6 (G, (0 : Int32), (0 : Int32))).bind fun q11 => gLet (gS1 q11.1 32 2 x8) fun G29 => some (G29, q11.2) else some (G, q5)
noncomputable def f_X0_film_b52 (a1 : Int32) (T : Nat → Nat × Nat) (a2 : Int32) (a3 : Int32) (q10 : gP × Int32) : Option ((gP × Int32) ⊕ (gP)) :=
  if (gS q10.1 526 6) ≤ q10.2 then some (.inr q10.1) else gck (gIn a1 4) (gck (gIn q10.2 8) ((f_X9_lay T q10.1 (28 + a1.toNatClampNeg) a2 (a3 + q10.2) ((gS q10.1 528 q10.2.toNatClampNeg).toInt64)).bind fun q19 => some (.inl (q19, q10.2 + 1))))
noncomputable def f_X0_film (T : Nat → Nat × Nat) (G : gP) (a1 : Int32) (a2 : Int32) (a3 : Int32) : Option (gP × Int32) :=
  if (f_X0_isSheet a1 a2) = 0 then some (G, (-1 : Int32)) else (f_X0_first G).bind fun q3 => if (f_X13_isAny q3) = 0 then some (q3, (-4 : Int32)) else (f_X0_lacks T q3 a1 a2 a3 (gS q3 526 6)).bind fun q7 => if 0 ≤ q7 then (gloop (f_X0_film_b52 a1 T a2 a3) gFu (q3, (0 : Int32))).bind fun q11 => some (q11, gS q11 526 6) else some (q3, q7)
def f_X0_readCandidate (G : gP) (a1 : Nat) : Option (gP × Bool) :=
  (f_X0_nextLetter G).bind fun q1 => gLet (gS q1.1 0 12) fun x3 => (f_X0_readWord q1.1).bind fun q5 => if q5.2 < 0 then gLet (gS1 q5.1 0 12 x3) fun G8 => (f_X0_faulty G8).bind fun q10 => some (q10, true) else (f_X7_find q5.1 a1 q5.2).bind fun q12 => if q12 < 0 then (f_X0_isSign q5.1 (58 : Int32)).bind fun q15 => if q15.2 = 0 then (f_X7_add q15.1 a1 q5.2 (0 : Int32)).bind fun q19 => some (q19, false) else (f_X0_nextLetter q15.1).bind fun q21 => gLet (q21.2 - (48 : Int32)) fun x23 => if (f_X0_isCost x23) = 0 then (f_X0_faulty q21.1).bind fun q31 => some (q31, true) else gLet (gS1 q21.1 0 12 ((gS q21.1 0 12) + (1 : Int32))) fun G27 => (f_X7_add G27 a1 q5.2 x23).bind fun q29 => some (q29, false) else gLet (gS1 q5.1 0 12 x3) fun G33 => (f_X0_faulty G33).bind fun q35 => some (q35, true)
def f_X0_readWords_b50 (q16 : gP × Nat) (q21 : gP) : Option ((gP) ⊕ ((gP) ⊕ (gP × Bool))) :=
  if (4 : Int32) ≤ (gS q21 q16.2 2) then some (.inr (.inl q21)) else (f_X0_isSign q21 (44 : Int32)).bind fun q27 => if q27.2 = 0 then some (.inr (.inl q27.1)) else (f_X0_readCandidate q27.1 q16.2).bind fun q31 => if q31.2 = true then some (.inr (.inr (q31.1, true))) else some (.inl q31.1)
def f_X0_readWords_b33  (q10 : gP × Int32) : Option ((gP × Int32) ⊕ ((gP) ⊕ (gP × Bool))) :=
  if q10.2 = 0 then some (.inr (.inl q10.1)) else (f_X6_come q10.1 58).bind fun q16 => (f_X0_readCandidate q16.1 q16.2).bind fun q19 => if q19.2 = true then some (.inr (.inr (q19.1, true))) else (gloop (f_X0_readWords_b50 q16) gFu q19.1).bind fun q22 => gsum q22 (fun zq22 => if (8 : Int32) ≤ (gS zq22 58 1) then some (.inl (zq22, (0 : Int32))) else (f_X0_isSign zq22 (59 : Int32)).bind fun q34 => if q34.2 = 0 then some (.inl (q34.1, (0 : Int32))) else some (.inl (q34.1, (1 : Int32)))) (fun r => some (.inr (.inr r)))
def f_X0_readWords (G : gP)  : Option (gP × Bool) :=
  gLet (gS1 G 0 12 (0 : Int32)) fun G1 => (f_X6_takeFrom G1 58 32).bind fun q3 => (f_X6_begin q3 58).bind fun q5 => (f_X0_nextLetter q5).bind fun q7 => if 0 ≤ q7.2 then (gloop (f_X0_readWords_b33) gFu (q7.1, (1 : Int32))).bind fun q11 => gsum q11 (fun zq11 => (f_X0_nextLetter zq11).bind fun q38 => if q38.2 < 0 then some (q38.1, false) else (f_X0_faulty q38.1).bind fun q41 => some (q41, true)) (fun r => some r) else some (q7.1, false)
def f_X0_words (G : gP)  : Option (gP × Int32) :=
  (f_X0_readWords G).bind fun q1 => if q1.2 = true then gLet (gS1 q1.1 0 11 (0 : Int32)) fun G3 => some (G3, (-20 : Int32) - (gS G3 8 6)) else gLet (gS1 q1.1 0 11 (0 : Int32)) fun G5 => (f_X6_takeFrom G5 32 58).bind fun q7 => gLet (gS1 q7 0 16 (0 : Int32)) fun G9 => some (G9, gS G9 32 1)
