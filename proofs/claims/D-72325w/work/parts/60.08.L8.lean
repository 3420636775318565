/-! those that are counted -/
def Lt.B (L : Lt) : Option Nat := L.bestR L.N
def Lt.cnt (L : Lt) (r : Nat) : Bool := L.so r && decide (L.cost r ≤ L.costO L.B + L.slack)
def Lt.cl (L : Lt) : Nat → List Nat
  | 0 => []
  | t + 1 => if L.cnt t = true then L.cl t ++ [t] else L.cl t
def Lt.C (L : Lt) : List Nat := L.cl L.N
/-- how many of a list have a word in a slot -/
def Lt.hv (L : Lt) (l : List Nat) (k w : Nat) : Nat := l.countP (fun r => decide (L.w k (L.pk r k) = w))
def Lt.evO (L : Lt) (o : Option Nat) : Option (List Nat) := o.bind L.ev
def Lt.nx (L : Lt) : Nat → Nat
  | 0 => 9999
  | t + 1 => if L.so t = true ∧ L.cost t < L.nx t ∧ L.ev t ≠ L.evO L.B then L.cost t else L.nx t
def cZ (k j : Nat) : Bool := fZ k j || decide (k = 6 ∨ k = 7 ∨ (k = 0 ∧ (j = 14 ∨ j = 15)))
theorem Lt.cl_lt (L : Lt) : ∀ t r, r ∈ L.cl t → r < t ∧ L.cnt r = true := by
  intro t
  induction t with
  | zero => intro r h; cases h
  | succ t ih =>
    intro r h
    rw [Lt.cl] at h
    by_cases hc : L.cnt t = true
    · rw [if_pos hc, List.mem_append] at h
      rcases h with h | h
      · have := ih r h; exact ⟨by omega, this.2⟩
      · rw [List.mem_singleton] at h; subst h; exact ⟨by omega, hc⟩
    · rw [if_neg hc] at h; have := ih r h; exact ⟨by omega, this.2⟩
theorem Lt.cl_len (L : Lt) : ∀ t, (L.cl t).length ≤ t := by
  intro t
  induction t with
  | zero => exact Nat.le_refl _
  | succ t ih =>
    rw [Lt.cl]
    by_cases hc : L.cnt t = true
    · rw [if_pos hc]; simp; exact ih
    · rw [if_neg hc]; omega
theorem Lt.hv_s (L : Lt) (l : List Nat) (r k w : Nat) : L.hv (l ++ [r]) k w = L.hv l k w + if L.w k (L.pk r k) = w then 1 else 0 := by
  unfold Lt.hv
  rw [List.countP_append, List.countP_singleton]
  by_cases h : L.w k (L.pk r k) = w
  · simp [h]
  · simp [h]
theorem Lt.hv_le (L : Lt) (l : List Nat) (k w : Nat) : L.hv l k w ≤ l.length := List.countP_le_length
/-- with no best one nothing is sound -/
theorem Lt.Wf.none_so {L : Lt} (hL : L.Wf) : ∀ t, L.bestR t = none → ∀ r, r < t → L.so r = false := by
  intro t
  induction t with
  | zero => intro _ r h; omega
  | succ t ih =>
    intro hn r hr
    rw [Lt.bestR] at hn
    by_cases hc : L.so t = true ∧ L.cost t < L.costO (L.bestR t)
    · rw [if_pos hc] at hn; cases hn
    · rw [if_neg hc] at hn
      by_cases hrt : r = t
      · subst hrt
        cases hs : L.so r with
        | false => rfl
        | true =>
          exfalso
          refine hc ⟨hs, ?_⟩
          rw [hn]
          have := hL.cost_le r
          show L.cost r < 9999
          omega
      · exact ih hn r (by omega)
def cP (L : Lt) (G : gP) : Prop := (fP L G) ∧ (gS G 0 14 = nI (L.nx L.N)) ∧ (gS G 0 15 = nI L.C.length) ∧ (∀ i, i < 60 → ∀ r, L.C[i]? = some r → gS G 7 i = nI r) ∧ (∀ k w, k < L.n → w < 32 → gS G 6 (32 * k + w) = nI (L.hv L.C k w))
theorem cP.f {L : Lt} {G : gP} (h : cP L G) : (fP L G) := h.1
theorem cP.next {L : Lt} {G : gP} (h : cP L G) : (gS G 0 14 = nI (L.nx L.N)) := h.2.1
theorem cP.many {L : Lt} {G : gP} (h : cP L G) : (gS G 0 15 = nI L.C.length) := h.2.2.1
theorem cP.list {L : Lt} {G : gP} (h : cP L G) : (∀ i, i < 60 → ∀ r, L.C[i]? = some r → gS G 7 i = nI r) := h.2.2.2.1
theorem cP.have' {L : Lt} {G : gP} (h : cP L G) : (∀ k w, k < L.n → w < 32 → gS G 6 (32 * k + w) = nI (L.hv L.C k w)) := h.2.2.2.2
theorem ns_ext {a b : List Nat} (hl : a.length = b.length) (h : ∀ k, k < b.length → nsF a k = nsF b k) : a = b := by
  apply List.ext_getElem?
  intro i
  by_cases hi : i < b.length
  · have := h i hi
    unfold nsF at this
    rw [List.getD_eq_getElem?_getD, List.getD_eq_getElem?_getD, List.getElem?_eq_getElem hi, List.getElem?_eq_getElem (by omega)] at this
    rw [List.getElem?_eq_getElem hi, List.getElem?_eq_getElem (by omega)]
    exact congrArg some this
  · rw [List.getElem?_eq_none (by omega), List.getElem?_eq_none (by omega)]
/-- whether lists are alike in their first k -/
def alike (a b : List Nat) : Nat → Bool
  | 0 => decide (a.length = b.length)
  | k + 1 => alike a b k && decide (nsF a k = nsF b k)
theorem alike_iff (a b : List Nat) : ∀ k, alike a b k = true ↔ a.length = b.length ∧ ∀ j, j < k → nsF a j = nsF b j := by
  intro k
  induction k with
  | zero => unfold alike; simp
  | succ k ih =>
    rw [alike, Bool.and_eq_true, ih, decide_eq_true_eq]
    constructor
    · rintro ⟨⟨h1, h2⟩, h3⟩
      refine ⟨h1, fun j hj => ?_⟩
      by_cases e : j = k
      · subst e; exact h3
      · exact h2 j (by omega)
    · rintro ⟨h1, h2⟩
      exact ⟨⟨h1, fun j hj => h2 j (by omega)⟩, h2 k (by omega)⟩
theorem alike_eq {a b : List Nat} (h : a.length = b.length ∨ True) : alike a b b.length = decide (a = b) := by
  by_cases e : a = b
  · subst e; rw [decide_eq_true rfl]; exact (alike_iff _ _ _).mpr ⟨rfl, fun _ _ => rfl⟩
  · rw [decide_eq_false e]
    cases hc : alike a b b.length with
    | false => rfl
    | true => exact (e (by have := (alike_iff _ _ _).mp hc; exact ns_ext this.1 this.2)).elim
theorem isAsBest_ok {G : gP} {a b : List Nat} (ha : nsOk a) (hb : nsOk b) (h6 : gS G 0 6 = nI a.length) (h13 : gS G 0 13 = nI b.length) (h4 : aL G 4 0 a) (h5 : aL G 5 0 b) : Ok (f_X11_isAsBest G) (fun x => x = bI (decide (a = b))) := by
  have la := ha.2.1
  have lb := hb.2.1
  unfold f_X11_isAsBest
  simp only [gLet]
  refine Ok.bind (Q := fun x => x = bI (decide (a = b))) ?_ (fun x hx => Ok.ck (by rw [hx]; exact bI_Z _) ⟨_, rfl, hx⟩)
  rw [h6, h13]
  refine Ok.loop (fun n s => n ≤ b.length ∧ s = (bI (alike a b (b.length - n)), nI (b.length - n))) ?_ gFu b.length _ (by unfold gFu; omega) ?_
  · rintro n s ⟨hn, rfl⟩
    unfold f_X11_isAsBest_b19
    simp only
    rw [h13]
    cases hc : alike a b (b.length - n) with
    | false =>
      have hne : decide (a = b) = false := by
        apply decide_eq_false
        intro e
        subst e
        rw [(alike_iff a a (a.length - n)).mpr ⟨rfl, fun _ _ => rfl⟩] at hc
        cases hc
      by_cases h0 : n = 0
      · subst h0
        rw [if_pos (nI_le (by omega) (by omega))]
        exact ⟨_, rfl, by simp only; rw [hne]⟩
      · rw [if_neg (nI_ge (by omega) (by omega)), if_pos (by decide)]
        exact ⟨_, rfl, by simp only; rw [hne]⟩
    | true =>
      have hA := (alike_iff _ _ _).mp hc
      by_cases h0 : n = 0
      · subst h0
        rw [if_pos (nI_le (by omega) (by omega))]
        refine ⟨_, rfl, ?_⟩
        simp only
        rw [← alike_eq (Or.inr trivial)]
        rw [Nat.sub_zero] at hc
        rw [hc]
      · rw [if_neg (nI_ge (by omega) (by omega)), if_neg (by decide), gIn_nI (by omega), decide_eq_true (by omega), nI_clamp (by omega)]
        have g4 := nsF_aL h4 (j := b.length - n) (by omega)
        have g5 := nsF_aL h5 (j := b.length - n) (by omega)
        rw [Nat.zero_add] at g4 g5
        have f4 := nsF_le ha (b.length - n)
        have f5 := nsF_le hb (b.length - n)
        rw [g4, g5, nI_1]
        refine Ok.ck rfl (Ok.ck rfl ?_)
        have e1 : b.length - n + 1 = b.length - (n - 1) := by omega
        have e2 : alike a b (b.length - (n - 1)) = (alike a b (b.length - n) && decide (nsF a (b.length - n) = nsF b (b.length - n))) := by
          rw [← e1]; rfl
        by_cases he : nsF a (b.length - n) = nsF b (b.length - n)
        · rw [if_pos (nI_inj he)]
          refine ⟨_, rfl, n - 1, by omega, by omega, ?_⟩
          rw [e2, hc, decide_eq_true he, e1]; rfl
        · rw [if_neg (fun z => he ((nI_eq (by omega) (by omega)).mp z))]
          refine ⟨_, rfl, n - 1, by omega, by omega, ?_⟩
          rw [e2, hc, decide_eq_false he, e1]; rfl
  · refine ⟨Nat.le_refl _, ?_⟩
    rw [Nat.sub_self]
    congr 1
    show _ = bI (decide (a.length = b.length))
    by_cases he : a.length = b.length
    · rw [if_pos (nI_inj he), decide_eq_true he]; rfl
    · rw [if_neg (fun z => he ((nI_eq (by omega) (by omega)).mp z)), decide_eq_false he]; rfl
