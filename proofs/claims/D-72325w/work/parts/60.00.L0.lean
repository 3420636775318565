/-! a pure function answers, and of its answer P holds -/
def Ok {α : Type} (x : Option α) (P : α → Prop) : Prop := ∃ r, x = some r ∧ P r
theorem Ok.some {α : Type} {P : α → Prop} {r : α} (h : P r) : Ok (Option.some r) P := ⟨r, rfl, h⟩
theorem Ok.bind {α β : Type} {P : β → Prop} {x : Option α} {f : α → Option β} {Q : α → Prop} (h : Ok x Q) (k : ∀ a, Q a → Ok (f a) P) : Ok (x.bind f) P := by
  obtain ⟨r, e, hq⟩ := h
  subst e
  exact k r hq
theorem Ok.imp {α : Type} {P Q : α → Prop} {x : Option α} (h : Ok x Q) (k : ∀ a, Q a → P a) : Ok x P := by
  obtain ⟨r, e, hq⟩ := h
  exact ⟨r, e, k r hq⟩
theorem Ok.ck {α : Type} {P : α → Prop} {b : Bool} {x : Option α} (hb : b = true) (h : Ok x P) : Ok (gck b x) P := by
  subst hb
  exact h
theorem Ok.lt {α β : Type} {P : β → Prop} {v : α} {f : α → Option β} (h : Ok (f v) P) : Ok (gLet v f) P := h
theorem Ok.pos {α : Type} {P : α → Prop} {c : Prop} [Decidable c] {a b : Option α} (hc : c) (h : Ok a P) : Ok (if c then a else b) P := by rw [if_pos hc]; exact h
theorem Ok.neg {α : Type} {P : α → Prop} {c : Prop} [Decidable c] {a b : Option α} (hc : ¬ c) (h : Ok b P) : Ok (if c then a else b) P := by rw [if_neg hc]; exact h
theorem Ok.eq {α : Type} {P : α → Prop} {x : Option α} {r : α} (e : x = Option.some r) (h : P r) : Ok x P := ⟨r, e, h⟩
theorem Ok.ite {α : Type} {P : α → Prop} {c : Prop} [Decidable c] {a b : Option α} (h1 : c → Ok a P) (h2 : ¬ c → Ok b P) : Ok (if c then a else b) P := by
  by_cases hc : c
  · exact Ok.pos hc (h1 hc)
  · exact Ok.neg hc (h2 hc)
/-- a loop: J n s: so it is with n turns to go at most -/
theorem Ok.loop {σ ρ : Type} {f : σ → Option (σ ⊕ ρ)} {P : ρ → Prop} (J : Nat → σ → Prop) (step : ∀ n s, J n s → Ok (f s) (fun r => match r with | .inl s' => ∃ n', n' < n ∧ J n' s' | .inr x => P x)) :
    ∀ N n s, n < N → J n s → Ok (gloop f N s) P := by
  intro N
  induction N with
  | zero => intro n s h; omega
  | succ N ih =>
    intro n s hn hJ
    unfold gloop
    refine Ok.bind (step n s hJ) (fun r hr => ?_)
    cases r with
    | inl s' =>
      obtain ⟨n', h1, h2⟩ := hr
      exact ih n' s' (by omega) h2
    | inr x => exact Ok.some hr
/-- a loop that counts up: J i s ahead of turn i; N turns -/
theorem Ok.up {σ ρ : Type} {f : σ → Option (σ ⊕ ρ)} {P : ρ → Prop} (J : Nat → σ → Prop) (N : Nat) (hN : N < 2 ^ 40) (step : ∀ i s, i < N → J i s → Ok (f s) (fun r => match r with | .inl s' => J (i + 1) s' | .inr _ => False)) (last : ∀ s, J N s → Ok (f s) (fun r => match r with | .inl _ => False | .inr x => P x)) {s : σ} (h : J 0 s) : Ok (gloop f gFu s) P := by
  refine Ok.loop (fun n s => n ≤ N ∧ J (N - n) s) ?_ gFu N s (by unfold gFu; omega) ⟨Nat.le_refl N, by rw [Nat.sub_self]; exact h⟩
  rintro n s ⟨h1, h2⟩
  cases n with
  | zero =>
    refine (last s h2).imp ?_
    intro r hr
    cases r with
    | inl _ => exact hr.elim
    | inr x => exact hr
  | succ n =>
    refine (step (N - (n + 1)) s (by omega) h2).imp ?_
    intro r hr
    cases r with
    | inl s' =>
      have e : N - (n + 1) + 1 = N - n := by omega
      rw [e] at hr
      exact ⟨n, by omega, by omega, hr⟩
    | inr x => exact hr.elim
theorem nI_lit (n : Nat) : (OfNat.ofNat n : Int32) = nI n := rfl
theorem nI_add1 (n : Nat) : nI n + 1 = nI (n + 1) := nI_1 n
theorem gIn_nI {k n : Nat} (h : k < 2 ^ 31) : gIn (nI k) n = decide (k < n) := by
  unfold gIn
  have h1 := nI_pos h
  rw [nI_clamp h]
  by_cases h2 : k < n
  · rw [decide_eq_true h2]; exact decide_eq_true (by intro z; rcases z with z | z; exact h1 z; omega)
  · rw [decide_eq_false h2]; exact decide_eq_false (by intro z; exact z (Or.inr (by omega)))
theorem gRem_nI {a d : Nat} (ha : a < 2 ^ 31) (h0 : 0 < d) (hd : d < 2 ^ 31) : gRem (nI a) (nI d) = nI (a % d) := pk_rem ha h0 hd
theorem gNz_nI {a : Nat} (h0 : 0 < a) (ha : a < 2 ^ 31) : gNz (nI a) = true := decide_eq_true (nI_ne0 h0 ha)
theorem nI_le0 {a : Nat} (ha : a < 2 ^ 31) : nI a ≤ 0 ↔ a = 0 := by
  rw [← nI_0, nI_leI ha (by omega)]
  omega
theorem nI_eq0 {a : Nat} (ha : a < 2 ^ 31) : nI a = 0 ↔ a = 0 := by
  rw [← nI_0, nI_eq ha (by omega)]
theorem nI_lt0 {a : Nat} (ha : a < 2 ^ 31) : nI a < 0 ↔ False := ⟨fun h => nI_pos ha h, False.elim⟩
theorem nI_ge0 {a : Nat} (ha : a < 2 ^ 31) : 0 ≤ nI a ↔ True := ⟨fun _ => trivial, fun _ => nI_pos' ha⟩
/-- cells of ints that hold a list -/
def aL (G : gP) (k o : Nat) (l : List Nat) : Prop := ∀ j v, l[j]? = some v → gS G k (o + j) = nI v
/-- nothing has changed but where Z says -/
def gOff (Z : Nat → Nat → Bool) (G G' : gP) : Prop := (∀ k j, Z k j = false → gS G' k j = gS G k j ∧ gL G' k j = gL G k j ∧ gR G' k j = gR G k j)
theorem gOff.rf {Z : Nat → Nat → Bool} {G : gP} : gOff Z G G := fun _ _ _ => ⟨rfl, rfl, rfl⟩
theorem gOff.tr {Z : Nat → Nat → Bool} {G G1 G2 : gP} (h : gOff Z G G1) (h2 : gOff Z G1 G2) : gOff Z G G2 := fun k j hz => ⟨(h2 k j hz).1.trans (h k j hz).1, (h2 k j hz).2.1.trans (h k j hz).2.1, (h2 k j hz).2.2.trans (h k j hz).2.2⟩
theorem gOff.S1 {Z : Nat → Nat → Bool} {G G1 : gP} (h : gOff Z G G1) {k j : Nat} {v : Int32} (hz : Z k j = true) : gOff Z G (gS1 G1 k j v) := fun a i hz2 => by
  refine ⟨?_, ?_, ?_⟩
  · rw [gS_S1, if_neg (fun e => by rw [e.1, e.2, hz] at hz2; cases hz2)]; exact (h a i hz2).1
  · rw [gL_S1]; exact (h a i hz2).2.1
  · rw [gR_S1]; exact (h a i hz2).2.2
theorem gOff.L1 {Z : Nat → Nat → Bool} {G G1 : gP} (h : gOff Z G G1) {k j : Nat} {v : Int64} (hz : Z k j = true) : gOff Z G (gL1 G1 k j v) := fun a i hz2 => by
  refine ⟨?_, ?_, ?_⟩
  · rw [gS_L1]; exact (h a i hz2).1
  · rw [gL_L1, if_neg (fun e => by rw [e.1, e.2, hz] at hz2; cases hz2)]; exact (h a i hz2).2.1
  · rw [gR_L1]; exact (h a i hz2).2.2
theorem gOff.R1 {Z : Nat → Nat → Bool} {G G1 : gP} (h : gOff Z G G1) {k j : Nat} {v : Option Nat} (hz : Z k j = true) : gOff Z G (gR1 G1 k j v) := fun a i hz2 => by
  refine ⟨?_, ?_, ?_⟩
  · rw [gS_R1]; exact (h a i hz2).1
  · rw [gL_R1]; exact (h a i hz2).2.1
  · rw [gR_R1, if_neg (fun e => by rw [e.1, e.2, hz] at hz2; cases hz2)]; exact (h a i hz2).2.2
theorem gOff.w {Z Z' : Nat → Nat → Bool} {G G' : gP} (h : gOff Z G G') (hz : ∀ k j, Z' k j = false → Z k j = false) : gOff Z' G G' := fun k j q => h k j (hz k j q)
/-- an int goes to the end of a list's cells -/
theorem aL.push {G : gP} {k o : Nat} {l : List Nat} {v : Nat} (h : aL G k o l) : aL (gS1 G k (o + l.length) (nI v)) k o (l ++ [v]) := fun j w hj => by
  rw [gS_S1]
  by_cases e : j = l.length
  · subst e
    rw [if_pos ⟨rfl, rfl⟩]
    rw [List.getElem?_append_right (Nat.le_refl _), Nat.sub_self] at hj
    cases hj
    rfl
  · rw [if_neg (fun z => e (by omega))]
    refine h j w ?_
    by_cases e2 : j < l.length
    · rw [List.getElem?_append_left e2] at hj; exact hj
    · exfalso
      rw [List.getElem?_eq_none (by rw [List.length_append]; simp; omega)] at hj
      cases hj
theorem aL.nil {G : gP} {k o : Nat} : aL G k o [] := fun j v h => by cases h
theorem aL.S1 {G : gP} {k o a i : Nat} {l : List Nat} {v : Int32} (h : aL G k o l) (hn : a ≠ k ∨ i < o ∨ o + l.length ≤ i) : aL (gS1 G a i v) k o l := fun j w hj => by
  have hl : j < l.length := (List.getElem?_eq_some_iff.mp hj).1
  rw [gS_S1, if_neg (fun z => by rcases hn with h | h | h; exact h z.1.symm; omega; omega)]
  exact h j w hj
