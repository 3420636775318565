/-! the Model: look -/
def mx (f : Nat → Nat) : Nat → Nat
  | 0 => 0
  | n + 1 => if mx f n < f n then f n else mx f n
theorem mx_le {f : Nat → Nat} {b : Nat} : ∀ n, (∀ i, i < n → f i ≤ b) → mx f n ≤ b := by
  intro n
  induction n with
  | zero => intro _; exact Nat.zero_le _
  | succ n ih =>
    intro h
    unfold mx
    have := ih (fun i hi => h i (by omega))
    have := h n (by omega)
    split <;> omega
def lk (mo : Nat → Nat) (all : Nat) : Nat → Option Nat × Nat
  | 0 => (none, all)
  | k + 1 => if mo k < (lk mo all k).2 then (some k, mo k) else lk mo all k
theorem lk_le (mo : Nat → Nat) (all : Nat) : ∀ k, (lk mo all k).2 ≤ all := by
  intro k
  induction k with
  | zero => exact Nat.le_refl _
  | succ k ih =>
    unfold lk
    split
    · show mo k ≤ all; omega
    · exact ih
theorem look_ok {G : gP} {L : Lt} (hL : L.Wf) (hn : gS G 1 0 = nI L.n) {h : Nat → Nat → Nat} (hb : ∀ k w, h k w < 2 ^ 30) (hh : ∀ k w, k < L.n → w < 32 → gS G 6 (32 * k + w) = nI (h k w)) {all : Nat} (ha : all < 2 ^ 30) :
    Ok (f_X11_look G (nI all)) (fun r => r = rI (lk (fun k => mx (h k) 32) all L.n).1) := by
  unfold f_X11_look
  have h8 := hL.n8
  refine Ok.bind (Q := fun r => r = rI (lk (fun k => mx (h k) 32) all L.n).1) ?_ (fun a ha => ⟨_, rfl, ha⟩)
  refine Ok.up (fun k s => s = (rI (lk (fun k => mx (h k) 32) all k).1, nI (lk (fun k => mx (h k) 32) all k).2, nI k)) L.n (by omega) ?_ ?_ rfl
  · rintro k s hk rfl
    unfold f_X11_look_b8
    have hle := lk_le (fun k => mx (h k) 32) all k
    simp (disch := omega) only [nLit, neg_nI, nI_add, pk_mul, nI_sub1, nI_clamp, gIn_t, gck_t, gLet_e, nI_leI, nI_ltJ, nI_eq, nI_nM_eq, nM_nI_eq, nM_eq, nM_nI_le, nI_nM_le, nM_nI_lt, nI_nM_lt, at_nI, gS_at, gS_ne', obind_some, iteT, iteF, ite_p, ite_n, hn]
    refine Ok.bind (Q := fun x => x = nI (mx (h k) 32)) ?_ (fun x hx => ?_)
    · refine Ok.up (fun w s => s = (nI (mx (h k) w), nI w)) 32 (by decide) ?_ ?_ rfl
      · rintro w s hw rfl
        unfold f_X11_look_b25
        have hm : mx (h k) w ≤ 2 ^ 30 := mx_le w (fun i _ => Nat.le_of_lt (hb k i))
        have hv := hb k w
        simp (disch := omega) only [nLit, neg_nI, nI_add, pk_mul, nI_sub1, nI_clamp, gIn_t, gck_t, gLet_e, nI_leI, nI_ltJ, nI_eq, nI_nM_eq, nM_nI_eq, nM_eq, nM_nI_le, nI_nM_le, nM_nI_lt, nI_nM_lt, at_nI, gS_at, gS_ne', obind_some, iteT, iteF, ite_p, ite_n, hh k w hk hw]
        by_cases hc : h k w ≤ mx (h k) w
        · simp (disch := omega) only [nLit, neg_nI, nI_add, pk_mul, nI_sub1, nI_clamp, gIn_t, gck_t, gLet_e, nI_leI, nI_ltJ, nI_eq, nI_nM_eq, nM_nI_eq, nM_eq, nM_nI_le, nI_nM_le, nM_nI_lt, nI_nM_lt, at_nI, gS_at, gS_ne', obind_some, iteT, iteF, ite_p, ite_n]; exact ⟨_, rfl, by simp only [mx]; simp (disch := omega) only [nLit, neg_nI, nI_add, pk_mul, nI_sub1, nI_clamp, gIn_t, gck_t, gLet_e, nI_leI, nI_ltJ, nI_eq, nI_nM_eq, nM_nI_eq, nM_eq, nM_nI_le, nI_nM_le, nM_nI_lt, nI_nM_lt, at_nI, gS_at, gS_ne', obind_some, iteT, iteF, ite_p, ite_n]⟩
        · simp (disch := omega) only [nLit, neg_nI, nI_add, pk_mul, nI_sub1, nI_clamp, gIn_t, gck_t, gLet_e, nI_leI, nI_ltJ, nI_eq, nI_nM_eq, nM_nI_eq, nM_eq, nM_nI_le, nI_nM_le, nM_nI_lt, nI_nM_lt, at_nI, gS_at, gS_ne', obind_some, iteT, iteF, ite_p, ite_n]; exact ⟨_, rfl, by simp only [mx]; simp (disch := omega) only [nLit, neg_nI, nI_add, pk_mul, nI_sub1, nI_clamp, gIn_t, gck_t, gLet_e, nI_leI, nI_ltJ, nI_eq, nI_nM_eq, nM_nI_eq, nM_eq, nM_nI_le, nI_nM_le, nM_nI_lt, nI_nM_lt, at_nI, gS_at, gS_ne', obind_some, iteT, iteF, ite_p, ite_n]⟩
      · rintro s rfl
        unfold f_X11_look_b25
        simp (disch := omega) only [nLit, neg_nI, nI_add, pk_mul, nI_sub1, nI_clamp, gIn_t, gck_t, gLet_e, nI_leI, nI_ltJ, nI_eq, nI_nM_eq, nM_nI_eq, nM_eq, nM_nI_le, nI_nM_le, nM_nI_lt, nI_nM_lt, at_nI, gS_at, gS_ne', obind_some, iteT, iteF, ite_p, ite_n]
        exact ⟨_, rfl, rfl⟩
    · subst hx
      have hm : mx (h k) 32 ≤ 2 ^ 30 := mx_le 32 (fun i _ => Nat.le_of_lt (hb k i))
      by_cases hc : mx (h k) 32 < (lk (fun k => mx (h k) 32) all k).2
      · simp (disch := omega) only [nLit, neg_nI, nI_add, pk_mul, nI_sub1, nI_clamp, gIn_t, gck_t, gLet_e, nI_leI, nI_ltJ, nI_eq, nI_nM_eq, nM_nI_eq, nM_eq, nM_nI_le, nI_nM_le, nM_nI_lt, nI_nM_lt, at_nI, gS_at, gS_ne', obind_some, iteT, iteF, ite_p, ite_n]; exact ⟨_, rfl, by simp only [lk]; simp (disch := omega) only [nLit, neg_nI, nI_add, pk_mul, nI_sub1, nI_clamp, gIn_t, gck_t, gLet_e, nI_leI, nI_ltJ, nI_eq, nI_nM_eq, nM_nI_eq, nM_eq, nM_nI_le, nI_nM_le, nM_nI_lt, nI_nM_lt, at_nI, gS_at, gS_ne', obind_some, iteT, iteF, ite_p, ite_n]; rfl⟩
      · simp (disch := omega) only [nLit, neg_nI, nI_add, pk_mul, nI_sub1, nI_clamp, gIn_t, gck_t, gLet_e, nI_leI, nI_ltJ, nI_eq, nI_nM_eq, nM_nI_eq, nM_eq, nM_nI_le, nI_nM_le, nM_nI_lt, nI_nM_lt, at_nI, gS_at, gS_ne', obind_some, iteT, iteF, ite_p, ite_n]; exact ⟨_, rfl, by simp only [lk]; simp (disch := omega) only [nLit, neg_nI, nI_add, pk_mul, nI_sub1, nI_clamp, gIn_t, gck_t, gLet_e, nI_leI, nI_ltJ, nI_eq, nI_nM_eq, nM_nI_eq, nM_eq, nM_nI_le, nI_nM_le, nM_nI_lt, nI_nM_lt, at_nI, gS_at, gS_ne', obind_some, iteT, iteF, ite_p, ite_n]⟩
  · rintro s rfl
    unfold f_X11_look_b8
    simp (disch := omega) only [nLit, neg_nI, nI_add, pk_mul, nI_sub1, nI_clamp, gIn_t, gck_t, gLet_e, nI_leI, nI_ltJ, nI_eq, nI_nM_eq, nM_nI_eq, nM_eq, nM_nI_le, nI_nM_le, nM_nI_lt, nI_nM_lt, at_nI, gS_at, gS_ne', obind_some, iteT, iteF, ite_p, ite_n, hn]
    exact ⟨_, rfl, rfl⟩
